/-! size, mark -/
def t9p_size (I : Nat → Int32) (A : Nat → Nat → Int32) (R : Nat → Option Nat) (G : Nat → Nat → Option Nat) (pl n : Nat) (ks : Nat → Nat) (z : Int32) : Option (Int32 × (Nat → Int32) × (Nat → Nat → Int32)) :=
  ob2 (t_begins I A R G 10) fun (I1 : Nat → Int32) (A2 : Nat → Nat → Int32) =>
  ob1 (p_load (sh 200 I1) (sh 200 A2) (sh 200 R) pl n ks z) fun (v3 : Int32) =>
  some (v3, I1, A2)
set_option maxRecDepth 100000 in
set_option maxHeartbeats 4000000 in
theorem t9p_size_met (l : Launch) (D : dd_) (s0 : State) (h0 : ∀ w ∈ lw_tbl, va_Nw w s0) (ad : Nat → Nat) (X : va_W) (base : Nat) (hAP : AP tS ad X base) (I : Nat → Int32) (A : Nat → Nat → Int32) (R : Nat → Option Nat) (G : Nat → Nat → Option Nat) (pl n : Nat) (ks : Nat → Nat) (z : Int32) (hR : RegX D X pl n ks) (b : Nat) (hm : (b, Sum.inr (8, [.int z])) ∈ X) (r : Int32) (I1 : (Nat → Int32)) (A1 : (Nat → Nat → Int32)) (hf : t9p_size I A R G pl n ks z  = some (r, I1, A1)) : Met l yX8_size (ws_ yX8_size cX8_size 3 (some .int)) ({ frames := 7, cells := 0, slots := 0, locals := 162 }) (PcX D s0 tS ad I A R G X base [.ref b, .ref (ad 199), .ref (ad 299)]) (QcX D tS ad I1 A1 R G X base (some (.int r))) 0 0 (upB base) := by
  refine Met.ofW (cc := cX8_size) (maxL := 3) (ret := (some .int)) (by decide) rfl ?_
  intro p e s m args below meth c s₁ B hml hv
  obtain ⟨rfl, hK, hY, hB0, hW⟩ := hv
  have hx := B.exec
  have hb := B.bytes
  have hr := B.returns
  have hts := atoms_spec (ws := (ws_ yX8_size cX8_size 3 (some .int))) B.pre
  have hts : ∀ w ∈ lw_all, w.before _ s = true := fun w h => hts w (List.mem_cons_of_mem _ h)
  have hown : s.vm.findClass RX8 = some m.cls := findClass_of_methodNamed B.named
  have hlocks := B.notSynchronized
  have hRf : 7 ≤ (headSpec (ws_ yX8_size cX8_size 3 (some .int)) ({ frames := 7, cells := 0, slots := 0, locals := 162 })).room.frames := Nat.le_refl _
  have hRl : 162 ≤ (headSpec (ws_ yX8_size cX8_size 3 (some .int)) ({ frames := 7, cells := 0, slots := 0, locals := 162 })).room.locals := Nat.le_refl _
  have hcs : 0 ≤ (headSpec (ws_ yX8_size cX8_size 3 (some .int)) ({ frames := 7, cells := 0, slots := 0, locals := 162 })).room.cells ∧ 0 ≤ (headSpec (ws_ yX8_size cX8_size 3 (some .int)) ({ frames := 7, cells := 0, slots := 0, locals := 162 })).room.slots := ⟨Nat.zero_le _, Nat.zero_le _⟩
  have hS : va_S (upB base) s.heap s.heap [] := va_S.rf
  have hl := lv_entry ([.ref b, .ref (ad 199), .ref (ad 299)]) (n := 3) (Nat.le_of_ble_eq_true rfl)
  rw [lg_entry_eq]
  generalize (lg_sl ([.ref b, .ref (ad 199), .ref (ad 299)]) ++ List.replicate (3 - (lg_sl ([.ref b, .ref (ad 199), .ref (ad 299)])).length) Slot.unset).toArray = ls at hl ⊢
  have hl : lv_has ls 3 [(0, .ref b), (1, .ref (ad 199)), (2, .ref (ad 299))] := hl
  have hf : (ob2 (t_begins I A R G 10) fun (I1 : Nat → Int32) (A2 : Nat → Nat → Int32) =>
    ob1 (p_load (sh 200 I1) (sh 200 A2) (sh 200 R) pl n ks z) fun (v3 : Int32) =>
    some (v3, I1, A2)) = some (r, I1, A1) := hf
  refine lv_aload_n hx hb dX8_size_0 rfl (lv_at hl 1 rfl) ?_
  refine lv_bipush (v := 10) hx hb dX8_size_1 (by decide) ?_
  obtain ⟨I1, A2, h2, hf⟩ := ob2_e hf
  refine x_vW (ov := none) (D := D) (s0 := s0) (Sc := tS) (adc := ad) (Ic := I) (Ac := A) (Rc := R) (Gc := G) (Xc := X) (base := base) (As := [.int 10]) (rest := []) (Ic1 := I1) (Ac1 := A2) (Rc1 := R) (Gc1 := G) (Xc1 := X) (b := ad 199) (C := RX2) ⟨hx, hb, hml, hown, hts⟩ (t_begins_met l D s0 h0 ad X base hAP I A R G 10 I1 A2 h2) (g_cwV 1 hts (lw_V q1184 q1118 q1119 q81 q1120) rfl rfl t_begins_ds ⟨Nat.le_trans (Nat.le_of_ble_eq_true rfl) hRf, Nat.le_trans (Nat.le_of_ble_eq_true rfl) hRl⟩) (x_recv hK hW tO199 rfl) hK hY (Nat.le_trans hB0 hS.1) hW hS hcs rfl hl.1 rfl (Nat.le_of_ble_eq_true rfl) dX8_size_3 (fun H locs hW hS => ?_)
  refine lv_aload_n hx hb dX8_size_6 rfl (lv_at hl 2 rfl) ?_
  refine lv_aload_n hx hb dX8_size_7 rfl (lv_at hl 0 rfl) ?_
  refine x_getD (v := .int z) hx hb hts hown hK hW hm in_X9 rfl 0 (by decide) q631 (fun _ h => h) rfl dX8_size_8 ?_
  obtain ⟨v3, h3, hf⟩ := ob1_e hf
  refine x_vR (ov := some (.int v3)) (D := D) (s0 := s0) (Sc := pS) (adc := (sh 200 ad)) (Ic := (sh 200 I1)) (Ac := (sh 200 A2)) (Rc := (sh 200 R)) (Gc := nG) (Xc := (tr200 D ad I1 A2 R G X)) (base := base) (As := [.int z]) (rest := []) (b := ad 299) (C := RX1) ⟨hx, hb, hml, hown, hts⟩ (p_load_met l D s0 h0 (sh 200 ad) (tr200 D ad I1 A2 R G X) base (sh 200 I1) (sh 200 A2) (sh 200 R) pl n ks (trg200 hR) z v3 h3) (g_cwV 1 hts (lw_V q1185 q772 q773 q77 q774) rfl rfl p_load_ds ⟨Nat.le_trans (Nat.le_of_ble_eq_true rfl) hRf, Nat.le_trans (Nat.le_of_ble_eq_true rfl) hRl⟩) (x_recv hK hW tO299 rfl) hK hY (Nat.le_trans hB0 hS.1) (tw200 hW) hcs rfl hl.1 rfl (Nat.le_of_ble_eq_true rfl) dX8_size_11 ?_
  obtain ⟨rfl, rfl, rfl⟩ := so3 hf
  exact W.iret hx hb hr (fun t ht _ => ⟨rfl, by rw [ht]; exact hW, hS.F ht⟩) hS.2.2 dX8_size_14
theorem t9p_size_ds : yX8_size.cls = RX8 ∧ yX8_size.cls ≠ "java/lang/invoke/MethodHandle" ∧ yX8_size.cls ≠ "java/lang/invoke/VarHandle" ∧ (parseMethodDescriptor yX8_size.desc).map (fun d => d.parameters.length) = some 2 := by decide +kernel
def t10p_size (I : Nat → Int32) (A : Nat → Nat → Int32) (R : Nat → Option Nat) (G : Nat → Nat → Option Nat) (pl n : Nat) (ks : Nat → Nat) (z : Int32) : Option (Int32 × (Nat → Int32) × (Nat → Nat → Int32)) :=
  ob2 (t_begins I A R G 10) fun (I1 : Nat → Int32) (A2 : Nat → Nat → Int32) =>
  ob1 (p_load (sh 200 I1) (sh 200 A2) (sh 200 R) pl n ks z) fun (v3 : Int32) =>
  some (v3, I1, A2)
set_option maxRecDepth 100000 in
set_option maxHeartbeats 4000000 in
theorem t10p_size_met (l : Launch) (D : dd_) (s0 : State) (h0 : ∀ w ∈ lw_tbl, va_Nw w s0) (ad : Nat → Nat) (X : va_W) (base : Nat) (hAP : AP tS ad X base) (I : Nat → Int32) (A : Nat → Nat → Int32) (R : Nat → Option Nat) (G : Nat → Nat → Option Nat) (pl n : Nat) (ks : Nat → Nat) (z : Int32) (hR : RegX D X pl n ks) (b : Nat) (hm : (b, Sum.inr (9, [.int z])) ∈ X) (r : Int32) (I1 : (Nat → Int32)) (A1 : (Nat → Nat → Int32)) (hf : t10p_size I A R G pl n ks z  = some (r, I1, A1)) : Met l yX8_size (ws_ yX8_size cX8_size 3 (some .int)) ({ frames := 7, cells := 0, slots := 0, locals := 162 }) (PcX D s0 tS ad I A R G X base [.ref b, .ref (ad 199), .ref (ad 299)]) (QcX D tS ad I1 A1 R G X base (some (.int r))) 0 0 (upB base) := by
  refine Met.ofW (cc := cX8_size) (maxL := 3) (ret := (some .int)) (by decide) rfl ?_
  intro p e s m args below meth c s₁ B hml hv
  obtain ⟨rfl, hK, hY, hB0, hW⟩ := hv
  have hx := B.exec
  have hb := B.bytes
  have hr := B.returns
  have hts := atoms_spec (ws := (ws_ yX8_size cX8_size 3 (some .int))) B.pre
  have hts : ∀ w ∈ lw_all, w.before _ s = true := fun w h => hts w (List.mem_cons_of_mem _ h)
  have hown : s.vm.findClass RX8 = some m.cls := findClass_of_methodNamed B.named
  have hlocks := B.notSynchronized
  have hRf : 7 ≤ (headSpec (ws_ yX8_size cX8_size 3 (some .int)) ({ frames := 7, cells := 0, slots := 0, locals := 162 })).room.frames := Nat.le_refl _
  have hRl : 162 ≤ (headSpec (ws_ yX8_size cX8_size 3 (some .int)) ({ frames := 7, cells := 0, slots := 0, locals := 162 })).room.locals := Nat.le_refl _
  have hcs : 0 ≤ (headSpec (ws_ yX8_size cX8_size 3 (some .int)) ({ frames := 7, cells := 0, slots := 0, locals := 162 })).room.cells ∧ 0 ≤ (headSpec (ws_ yX8_size cX8_size 3 (some .int)) ({ frames := 7, cells := 0, slots := 0, locals := 162 })).room.slots := ⟨Nat.zero_le _, Nat.zero_le _⟩
  have hS : va_S (upB base) s.heap s.heap [] := va_S.rf
  have hl := lv_entry ([.ref b, .ref (ad 199), .ref (ad 299)]) (n := 3) (Nat.le_of_ble_eq_true rfl)
  rw [lg_entry_eq]
  generalize (lg_sl ([.ref b, .ref (ad 199), .ref (ad 299)]) ++ List.replicate (3 - (lg_sl ([.ref b, .ref (ad 199), .ref (ad 299)])).length) Slot.unset).toArray = ls at hl ⊢
  have hl : lv_has ls 3 [(0, .ref b), (1, .ref (ad 199)), (2, .ref (ad 299))] := hl
  have hf : (ob2 (t_begins I A R G 10) fun (I1 : Nat → Int32) (A2 : Nat → Nat → Int32) =>
    ob1 (p_load (sh 200 I1) (sh 200 A2) (sh 200 R) pl n ks z) fun (v3 : Int32) =>
    some (v3, I1, A2)) = some (r, I1, A1) := hf
  refine lv_aload_n hx hb dX8_size_0 rfl (lv_at hl 1 rfl) ?_
  refine lv_bipush (v := 10) hx hb dX8_size_1 (by decide) ?_
  obtain ⟨I1, A2, h2, hf⟩ := ob2_e hf
  refine x_vW (ov := none) (D := D) (s0 := s0) (Sc := tS) (adc := ad) (Ic := I) (Ac := A) (Rc := R) (Gc := G) (Xc := X) (base := base) (As := [.int 10]) (rest := []) (Ic1 := I1) (Ac1 := A2) (Rc1 := R) (Gc1 := G) (Xc1 := X) (b := ad 199) (C := RX2) ⟨hx, hb, hml, hown, hts⟩ (t_begins_met l D s0 h0 ad X base hAP I A R G 10 I1 A2 h2) (g_cwV 1 hts (lw_V q1184 q1118 q1119 q81 q1120) rfl rfl t_begins_ds ⟨Nat.le_trans (Nat.le_of_ble_eq_true rfl) hRf, Nat.le_trans (Nat.le_of_ble_eq_true rfl) hRl⟩) (x_recv hK hW tO199 rfl) hK hY (Nat.le_trans hB0 hS.1) hW hS hcs rfl hl.1 rfl (Nat.le_of_ble_eq_true rfl) dX8_size_3 (fun H locs hW hS => ?_)
  refine lv_aload_n hx hb dX8_size_6 rfl (lv_at hl 2 rfl) ?_
  refine lv_aload_n hx hb dX8_size_7 rfl (lv_at hl 0 rfl) ?_
  refine x_getD (v := .int z) hx hb hts hown hK hW hm in_X10 rfl 0 (by decide) q631 (fun _ h => h) rfl dX8_size_8 ?_
  obtain ⟨v3, h3, hf⟩ := ob1_e hf
  refine x_vR (ov := some (.int v3)) (D := D) (s0 := s0) (Sc := pS) (adc := (sh 200 ad)) (Ic := (sh 200 I1)) (Ac := (sh 200 A2)) (Rc := (sh 200 R)) (Gc := nG) (Xc := (tr200 D ad I1 A2 R G X)) (base := base) (As := [.int z]) (rest := []) (b := ad 299) (C := RX1) ⟨hx, hb, hml, hown, hts⟩ (p_load_met l D s0 h0 (sh 200 ad) (tr200 D ad I1 A2 R G X) base (sh 200 I1) (sh 200 A2) (sh 200 R) pl n ks (trg200 hR) z v3 h3) (g_cwV 1 hts (lw_V q1185 q772 q773 q77 q774) rfl rfl p_load_ds ⟨Nat.le_trans (Nat.le_of_ble_eq_true rfl) hRf, Nat.le_trans (Nat.le_of_ble_eq_true rfl) hRl⟩) (x_recv hK hW tO299 rfl) hK hY (Nat.le_trans hB0 hS.1) (tw200 hW) hcs rfl hl.1 rfl (Nat.le_of_ble_eq_true rfl) dX8_size_11 ?_
  obtain ⟨rfl, rfl, rfl⟩ := so3 hf
  exact W.iret hx hb hr (fun t ht _ => ⟨rfl, by rw [ht]; exact hW, hS.F ht⟩) hS.2.2 dX8_size_14
theorem t10p_size_ds : yX8_size.cls = RX8 ∧ yX8_size.cls ≠ "java/lang/invoke/MethodHandle" ∧ yX8_size.cls ≠ "java/lang/invoke/VarHandle" ∧ (parseMethodDescriptor yX8_size.desc).map (fun d => d.parameters.length) = some 2 := by decide +kernel
def t11p_size (I : Nat → Int32) (A : Nat → Nat → Int32) (R : Nat → Option Nat) (G : Nat → Nat → Option Nat) (pl n : Nat) (ks : Nat → Nat) (z : Int32) : Option (Int32 × (Nat → Int32) × (Nat → Nat → Int32)) :=
  ob2 (t_begins I A R G 10) fun (I1 : Nat → Int32) (A2 : Nat → Nat → Int32) =>
  ob1 (p_load (sh 200 I1) (sh 200 A2) (sh 200 R) pl n ks z) fun (v3 : Int32) =>
  some (v3, I1, A2)
set_option maxRecDepth 100000 in
set_option maxHeartbeats 4000000 in
theorem t11p_size_met (l : Launch) (D : dd_) (s0 : State) (h0 : ∀ w ∈ lw_tbl, va_Nw w s0) (ad : Nat → Nat) (X : va_W) (base : Nat) (hAP : AP tS ad X base) (I : Nat → Int32) (A : Nat → Nat → Int32) (R : Nat → Option Nat) (G : Nat → Nat → Option Nat) (pl n : Nat) (ks : Nat → Nat) (z : Int32) (hR : RegX D X pl n ks) (b : Nat) (hm : (b, Sum.inr (10, [.int z])) ∈ X) (r : Int32) (I1 : (Nat → Int32)) (A1 : (Nat → Nat → Int32)) (hf : t11p_size I A R G pl n ks z  = some (r, I1, A1)) : Met l yX8_size (ws_ yX8_size cX8_size 3 (some .int)) ({ frames := 7, cells := 0, slots := 0, locals := 162 }) (PcX D s0 tS ad I A R G X base [.ref b, .ref (ad 199), .ref (ad 299)]) (QcX D tS ad I1 A1 R G X base (some (.int r))) 0 0 (upB base) := by
  refine Met.ofW (cc := cX8_size) (maxL := 3) (ret := (some .int)) (by decide) rfl ?_
  intro p e s m args below meth c s₁ B hml hv
  obtain ⟨rfl, hK, hY, hB0, hW⟩ := hv
  have hx := B.exec
  have hb := B.bytes
  have hr := B.returns
  have hts := atoms_spec (ws := (ws_ yX8_size cX8_size 3 (some .int))) B.pre
  have hts : ∀ w ∈ lw_all, w.before _ s = true := fun w h => hts w (List.mem_cons_of_mem _ h)
  have hown : s.vm.findClass RX8 = some m.cls := findClass_of_methodNamed B.named
  have hlocks := B.notSynchronized
  have hRf : 7 ≤ (headSpec (ws_ yX8_size cX8_size 3 (some .int)) ({ frames := 7, cells := 0, slots := 0, locals := 162 })).room.frames := Nat.le_refl _
  have hRl : 162 ≤ (headSpec (ws_ yX8_size cX8_size 3 (some .int)) ({ frames := 7, cells := 0, slots := 0, locals := 162 })).room.locals := Nat.le_refl _
  have hcs : 0 ≤ (headSpec (ws_ yX8_size cX8_size 3 (some .int)) ({ frames := 7, cells := 0, slots := 0, locals := 162 })).room.cells ∧ 0 ≤ (headSpec (ws_ yX8_size cX8_size 3 (some .int)) ({ frames := 7, cells := 0, slots := 0, locals := 162 })).room.slots := ⟨Nat.zero_le _, Nat.zero_le _⟩
  have hS : va_S (upB base) s.heap s.heap [] := va_S.rf
  have hl := lv_entry ([.ref b, .ref (ad 199), .ref (ad 299)]) (n := 3) (Nat.le_of_ble_eq_true rfl)
  rw [lg_entry_eq]
  generalize (lg_sl ([.ref b, .ref (ad 199), .ref (ad 299)]) ++ List.replicate (3 - (lg_sl ([.ref b, .ref (ad 199), .ref (ad 299)])).length) Slot.unset).toArray = ls at hl ⊢
  have hl : lv_has ls 3 [(0, .ref b), (1, .ref (ad 199)), (2, .ref (ad 299))] := hl
  have hf : (ob2 (t_begins I A R G 10) fun (I1 : Nat → Int32) (A2 : Nat → Nat → Int32) =>
    ob1 (p_load (sh 200 I1) (sh 200 A2) (sh 200 R) pl n ks z) fun (v3 : Int32) =>
    some (v3, I1, A2)) = some (r, I1, A1) := hf
  refine lv_aload_n hx hb dX8_size_0 rfl (lv_at hl 1 rfl) ?_
  refine lv_bipush (v := 10) hx hb dX8_size_1 (by decide) ?_
  obtain ⟨I1, A2, h2, hf⟩ := ob2_e hf
  refine x_vW (ov := none) (D := D) (s0 := s0) (Sc := tS) (adc := ad) (Ic := I) (Ac := A) (Rc := R) (Gc := G) (Xc := X) (base := base) (As := [.int 10]) (rest := []) (Ic1 := I1) (Ac1 := A2) (Rc1 := R) (Gc1 := G) (Xc1 := X) (b := ad 199) (C := RX2) ⟨hx, hb, hml, hown, hts⟩ (t_begins_met l D s0 h0 ad X base hAP I A R G 10 I1 A2 h2) (g_cwV 1 hts (lw_V q1184 q1118 q1119 q81 q1120) rfl rfl t_begins_ds ⟨Nat.le_trans (Nat.le_of_ble_eq_true rfl) hRf, Nat.le_trans (Nat.le_of_ble_eq_true rfl) hRl⟩) (x_recv hK hW tO199 rfl) hK hY (Nat.le_trans hB0 hS.1) hW hS hcs rfl hl.1 rfl (Nat.le_of_ble_eq_true rfl) dX8_size_3 (fun H locs hW hS => ?_)
  refine lv_aload_n hx hb dX8_size_6 rfl (lv_at hl 2 rfl) ?_
  refine lv_aload_n hx hb dX8_size_7 rfl (lv_at hl 0 rfl) ?_
  refine x_getD (v := .int z) hx hb hts hown hK hW hm in_X11 rfl 0 (by decide) q631 (fun _ h => h) rfl dX8_size_8 ?_
  obtain ⟨v3, h3, hf⟩ := ob1_e hf
  refine x_vR (ov := some (.int v3)) (D := D) (s0 := s0) (Sc := pS) (adc := (sh 200 ad)) (Ic := (sh 200 I1)) (Ac := (sh 200 A2)) (Rc := (sh 200 R)) (Gc := nG) (Xc := (tr200 D ad I1 A2 R G X)) (base := base) (As := [.int z]) (rest := []) (b := ad 299) (C := RX1) ⟨hx, hb, hml, hown, hts⟩ (p_load_met l D s0 h0 (sh 200 ad) (tr200 D ad I1 A2 R G X) base (sh 200 I1) (sh 200 A2) (sh 200 R) pl n ks (trg200 hR) z v3 h3) (g_cwV 1 hts (lw_V q1185 q772 q773 q77 q774) rfl rfl p_load_ds ⟨Nat.le_trans (Nat.le_of_ble_eq_true rfl) hRf, Nat.le_trans (Nat.le_of_ble_eq_true rfl) hRl⟩) (x_recv hK hW tO299 rfl) hK hY (Nat.le_trans hB0 hS.1) (tw200 hW) hcs rfl hl.1 rfl (Nat.le_of_ble_eq_true rfl) dX8_size_11 ?_
  obtain ⟨rfl, rfl, rfl⟩ := so3 hf
  exact W.iret hx hb hr (fun t ht _ => ⟨rfl, by rw [ht]; exact hW, hS.F ht⟩) hS.2.2 dX8_size_14
theorem t11p_size_ds : yX8_size.cls = RX8 ∧ yX8_size.cls ≠ "java/lang/invoke/MethodHandle" ∧ yX8_size.cls ≠ "java/lang/invoke/VarHandle" ∧ (parseMethodDescriptor yX8_size.desc).map (fun d => d.parameters.length) = some 2 := by decide +kernel
def t12p_size (I : Nat → Int32) (A : Nat → Nat → Int32) (R : Nat → Option Nat) (G : Nat → Nat → Option Nat) (pl n : Nat) (ks : Nat → Nat) (z : Int32) : Option (Int32 × (Nat → Int32) × (Nat → Nat → Int32)) :=
  ob2 (t_begins I A R G 10) fun (I1 : Nat → Int32) (A2 : Nat → Nat → Int32) =>
  ob1 (p_load (sh 200 I1) (sh 200 A2) (sh 200 R) pl n ks z) fun (v3 : Int32) =>
  some (v3, I1, A2)
set_option maxRecDepth 100000 in
set_option maxHeartbeats 4000000 in
theorem t12p_size_met (l : Launch) (D : dd_) (s0 : State) (h0 : ∀ w ∈ lw_tbl, va_Nw w s0) (ad : Nat → Nat) (X : va_W) (base : Nat) (hAP : AP tS ad X base) (I : Nat → Int32) (A : Nat → Nat → Int32) (R : Nat → Option Nat) (G : Nat → Nat → Option Nat) (pl n : Nat) (ks : Nat → Nat) (z : Int32) (hR : RegX D X pl n ks) (b : Nat) (hm : (b, Sum.inr (11, [.int z])) ∈ X) (r : Int32) (I1 : (Nat → Int32)) (A1 : (Nat → Nat → Int32)) (hf : t12p_size I A R G pl n ks z  = some (r, I1, A1)) : Met l yX8_size (ws_ yX8_size cX8_size 3 (some .int)) ({ frames := 7, cells := 0, slots := 0, locals := 162 }) (PcX D s0 tS ad I A R G X base [.ref b, .ref (ad 199), .ref (ad 299)]) (QcX D tS ad I1 A1 R G X base (some (.int r))) 0 0 (upB base) := by
  refine Met.ofW (cc := cX8_size) (maxL := 3) (ret := (some .int)) (by decide) rfl ?_
  intro p e s m args below meth c s₁ B hml hv
  obtain ⟨rfl, hK, hY, hB0, hW⟩ := hv
  have hx := B.exec
  have hb := B.bytes
  have hr := B.returns
  have hts := atoms_spec (ws := (ws_ yX8_size cX8_size 3 (some .int))) B.pre
  have hts : ∀ w ∈ lw_all, w.before _ s = true := fun w h => hts w (List.mem_cons_of_mem _ h)
  have hown : s.vm.findClass RX8 = some m.cls := findClass_of_methodNamed B.named
  have hlocks := B.notSynchronized
  have hRf : 7 ≤ (headSpec (ws_ yX8_size cX8_size 3 (some .int)) ({ frames := 7, cells := 0, slots := 0, locals := 162 })).room.frames := Nat.le_refl _
  have hRl : 162 ≤ (headSpec (ws_ yX8_size cX8_size 3 (some .int)) ({ frames := 7, cells := 0, slots := 0, locals := 162 })).room.locals := Nat.le_refl _
  have hcs : 0 ≤ (headSpec (ws_ yX8_size cX8_size 3 (some .int)) ({ frames := 7, cells := 0, slots := 0, locals := 162 })).room.cells ∧ 0 ≤ (headSpec (ws_ yX8_size cX8_size 3 (some .int)) ({ frames := 7, cells := 0, slots := 0, locals := 162 })).room.slots := ⟨Nat.zero_le _, Nat.zero_le _⟩
  have hS : va_S (upB base) s.heap s.heap [] := va_S.rf
  have hl := lv_entry ([.ref b, .ref (ad 199), .ref (ad 299)]) (n := 3) (Nat.le_of_ble_eq_true rfl)
  rw [lg_entry_eq]
  generalize (lg_sl ([.ref b, .ref (ad 199), .ref (ad 299)]) ++ List.replicate (3 - (lg_sl ([.ref b, .ref (ad 199), .ref (ad 299)])).length) Slot.unset).toArray = ls at hl ⊢
  have hl : lv_has ls 3 [(0, .ref b), (1, .ref (ad 199)), (2, .ref (ad 299))] := hl
  have hf : (ob2 (t_begins I A R G 10) fun (I1 : Nat → Int32) (A2 : Nat → Nat → Int32) =>
    ob1 (p_load (sh 200 I1) (sh 200 A2) (sh 200 R) pl n ks z) fun (v3 : Int32) =>
    some (v3, I1, A2)) = some (r, I1, A1) := hf
  refine lv_aload_n hx hb dX8_size_0 rfl (lv_at hl 1 rfl) ?_
  refine lv_bipush (v := 10) hx hb dX8_size_1 (by decide) ?_
  obtain ⟨I1, A2, h2, hf⟩ := ob2_e hf
  refine x_vW (ov := none) (D := D) (s0 := s0) (Sc := tS) (adc := ad) (Ic := I) (Ac := A) (Rc := R) (Gc := G) (Xc := X) (base := base) (As := [.int 10]) (rest := []) (Ic1 := I1) (Ac1 := A2) (Rc1 := R) (Gc1 := G) (Xc1 := X) (b := ad 199) (C := RX2) ⟨hx, hb, hml, hown, hts⟩ (t_begins_met l D s0 h0 ad X base hAP I A R G 10 I1 A2 h2) (g_cwV 1 hts (lw_V q1184 q1118 q1119 q81 q1120) rfl rfl t_begins_ds ⟨Nat.le_trans (Nat.le_of_ble_eq_true rfl) hRf, Nat.le_trans (Nat.le_of_ble_eq_true rfl) hRl⟩) (x_recv hK hW tO199 rfl) hK hY (Nat.le_trans hB0 hS.1) hW hS hcs rfl hl.1 rfl (Nat.le_of_ble_eq_true rfl) dX8_size_3 (fun H locs hW hS => ?_)
  refine lv_aload_n hx hb dX8_size_6 rfl (lv_at hl 2 rfl) ?_
  refine lv_aload_n hx hb dX8_size_7 rfl (lv_at hl 0 rfl) ?_
  refine x_getD (v := .int z) hx hb hts hown hK hW hm in_X12 rfl 0 (by decide) q631 (fun _ h => h) rfl dX8_size_8 ?_
  obtain ⟨v3, h3, hf⟩ := ob1_e hf
  refine x_vR (ov := some (.int v3)) (D := D) (s0 := s0) (Sc := pS) (adc := (sh 200 ad)) (Ic := (sh 200 I1)) (Ac := (sh 200 A2)) (Rc := (sh 200 R)) (Gc := nG) (Xc := (tr200 D ad I1 A2 R G X)) (base := base) (As := [.int z]) (rest := []) (b := ad 299) (C := RX1) ⟨hx, hb, hml, hown, hts⟩ (p_load_met l D s0 h0 (sh 200 ad) (tr200 D ad I1 A2 R G X) base (sh 200 I1) (sh 200 A2) (sh 200 R) pl n ks (trg200 hR) z v3 h3) (g_cwV 1 hts (lw_V q1185 q772 q773 q77 q774) rfl rfl p_load_ds ⟨Nat.le_trans (Nat.le_of_ble_eq_true rfl) hRf, Nat.le_trans (Nat.le_of_ble_eq_true rfl) hRl⟩) (x_recv hK hW tO299 rfl) hK hY (Nat.le_trans hB0 hS.1) (tw200 hW) hcs rfl hl.1 rfl (Nat.le_of_ble_eq_true rfl) dX8_size_11 ?_
  obtain ⟨rfl, rfl, rfl⟩ := so3 hf
  exact W.iret hx hb hr (fun t ht _ => ⟨rfl, by rw [ht]; exact hW, hS.F ht⟩) hS.2.2 dX8_size_14
theorem t12p_size_ds : yX8_size.cls = RX8 ∧ yX8_size.cls ≠ "java/lang/invoke/MethodHandle" ∧ yX8_size.cls ≠ "java/lang/invoke/VarHandle" ∧ (parseMethodDescriptor yX8_size.desc).map (fun d => d.parameters.length) = some 2 := by decide +kernel
def t13p_size (I : Nat → Int32) (A : Nat → Nat → Int32) (R : Nat → Option Nat) (G : Nat → Nat → Option Nat) (pl n : Nat) (ks : Nat → Nat) (z : Int32) : Option (Int32 × (Nat → Int32) × (Nat → Nat → Int32)) :=
  ob2 (t_begins I A R G 10) fun (I1 : Nat → Int32) (A2 : Nat → Nat → Int32) =>
  ob1 (p_load (sh 200 I1) (sh 200 A2) (sh 200 R) pl n ks z) fun (v3 : Int32) =>
  some (v3, I1, A2)
set_option maxRecDepth 100000 in
set_option maxHeartbeats 4000000 in
theorem t13p_size_met (l : Launch) (D : dd_) (s0 : State) (h0 : ∀ w ∈ lw_tbl, va_Nw w s0) (ad : Nat → Nat) (X : va_W) (base : Nat) (hAP : AP tS ad X base) (I : Nat → Int32) (A : Nat → Nat → Int32) (R : Nat → Option Nat) (G : Nat → Nat → Option Nat) (pl n : Nat) (ks : Nat → Nat) (z : Int32) (hR : RegX D X pl n ks) (b : Nat) (hm : (b, Sum.inr (12, [.int z])) ∈ X) (r : Int32) (I1 : (Nat → Int32)) (A1 : (Nat → Nat → Int32)) (hf : t13p_size I A R G pl n ks z  = some (r, I1, A1)) : Met l yX8_size (ws_ yX8_size cX8_size 3 (some .int)) ({ frames := 7, cells := 0, slots := 0, locals := 162 }) (PcX D s0 tS ad I A R G X base [.ref b, .ref (ad 199), .ref (ad 299)]) (QcX D tS ad I1 A1 R G X base (some (.int r))) 0 0 (upB base) := by
  refine Met.ofW (cc := cX8_size) (maxL := 3) (ret := (some .int)) (by decide) rfl ?_
  intro p e s m args below meth c s₁ B hml hv
  obtain ⟨rfl, hK, hY, hB0, hW⟩ := hv
  have hx := B.exec
  have hb := B.bytes
  have hr := B.returns
  have hts := atoms_spec (ws := (ws_ yX8_size cX8_size 3 (some .int))) B.pre
  have hts : ∀ w ∈ lw_all, w.before _ s = true := fun w h => hts w (List.mem_cons_of_mem _ h)
  have hown : s.vm.findClass RX8 = some m.cls := findClass_of_methodNamed B.named
  have hlocks := B.notSynchronized
  have hRf : 7 ≤ (headSpec (ws_ yX8_size cX8_size 3 (some .int)) ({ frames := 7, cells := 0, slots := 0, locals := 162 })).room.frames := Nat.le_refl _
  have hRl : 162 ≤ (headSpec (ws_ yX8_size cX8_size 3 (some .int)) ({ frames := 7, cells := 0, slots := 0, locals := 162 })).room.locals := Nat.le_refl _
  have hcs : 0 ≤ (headSpec (ws_ yX8_size cX8_size 3 (some .int)) ({ frames := 7, cells := 0, slots := 0, locals := 162 })).room.cells ∧ 0 ≤ (headSpec (ws_ yX8_size cX8_size 3 (some .int)) ({ frames := 7, cells := 0, slots := 0, locals := 162 })).room.slots := ⟨Nat.zero_le _, Nat.zero_le _⟩
  have hS : va_S (upB base) s.heap s.heap [] := va_S.rf
  have hl := lv_entry ([.ref b, .ref (ad 199), .ref (ad 299)]) (n := 3) (Nat.le_of_ble_eq_true rfl)
  rw [lg_entry_eq]
  generalize (lg_sl ([.ref b, .ref (ad 199), .ref (ad 299)]) ++ List.replicate (3 - (lg_sl ([.ref b, .ref (ad 199), .ref (ad 299)])).length) Slot.unset).toArray = ls at hl ⊢
  have hl : lv_has ls 3 [(0, .ref b), (1, .ref (ad 199)), (2, .ref (ad 299))] := hl
  have hf : (ob2 (t_begins I A R G 10) fun (I1 : Nat → Int32) (A2 : Nat → Nat → Int32) =>
    ob1 (p_load (sh 200 I1) (sh 200 A2) (sh 200 R) pl n ks z) fun (v3 : Int32) =>
    some (v3, I1, A2)) = some (r, I1, A1) := hf
  refine lv_aload_n hx hb dX8_size_0 rfl (lv_at hl 1 rfl) ?_
  refine lv_bipush (v := 10) hx hb dX8_size_1 (by decide) ?_
  obtain ⟨I1, A2, h2, hf⟩ := ob2_e hf
  refine x_vW (ov := none) (D := D) (s0 := s0) (Sc := tS) (adc := ad) (Ic := I) (Ac := A) (Rc := R) (Gc := G) (Xc := X) (base := base) (As := [.int 10]) (rest := []) (Ic1 := I1) (Ac1 := A2) (Rc1 := R) (Gc1 := G) (Xc1 := X) (b := ad 199) (C := RX2) ⟨hx, hb, hml, hown, hts⟩ (t_begins_met l D s0 h0 ad X base hAP I A R G 10 I1 A2 h2) (g_cwV 1 hts (lw_V q1184 q1118 q1119 q81 q1120) rfl rfl t_begins_ds ⟨Nat.le_trans (Nat.le_of_ble_eq_true rfl) hRf, Nat.le_trans (Nat.le_of_ble_eq_true rfl) hRl⟩) (x_recv hK hW tO199 rfl) hK hY (Nat.le_trans hB0 hS.1) hW hS hcs rfl hl.1 rfl (Nat.le_of_ble_eq_true rfl) dX8_size_3 (fun H locs hW hS => ?_)
  refine lv_aload_n hx hb dX8_size_6 rfl (lv_at hl 2 rfl) ?_
  refine lv_aload_n hx hb dX8_size_7 rfl (lv_at hl 0 rfl) ?_
  refine x_getD (v := .int z) hx hb hts hown hK hW hm in_X13 rfl 0 (by decide) q631 (fun _ h => h) rfl dX8_size_8 ?_
  obtain ⟨v3, h3, hf⟩ := ob1_e hf
  refine x_vR (ov := some (.int v3)) (D := D) (s0 := s0) (Sc := pS) (adc := (sh 200 ad)) (Ic := (sh 200 I1)) (Ac := (sh 200 A2)) (Rc := (sh 200 R)) (Gc := nG) (Xc := (tr200 D ad I1 A2 R G X)) (base := base) (As := [.int z]) (rest := []) (b := ad 299) (C := RX1) ⟨hx, hb, hml, hown, hts⟩ (p_load_met l D s0 h0 (sh 200 ad) (tr200 D ad I1 A2 R G X) base (sh 200 I1) (sh 200 A2) (sh 200 R) pl n ks (trg200 hR) z v3 h3) (g_cwV 1 hts (lw_V q1185 q772 q773 q77 q774) rfl rfl p_load_ds ⟨Nat.le_trans (Nat.le_of_ble_eq_true rfl) hRf, Nat.le_trans (Nat.le_of_ble_eq_true rfl) hRl⟩) (x_recv hK hW tO299 rfl) hK hY (Nat.le_trans hB0 hS.1) (tw200 hW) hcs rfl hl.1 rfl (Nat.le_of_ble_eq_true rfl) dX8_size_11 ?_
  obtain ⟨rfl, rfl, rfl⟩ := so3 hf
  exact W.iret hx hb hr (fun t ht _ => ⟨rfl, by rw [ht]; exact hW, hS.F ht⟩) hS.2.2 dX8_size_14
theorem t13p_size_ds : yX8_size.cls = RX8 ∧ yX8_size.cls ≠ "java/lang/invoke/MethodHandle" ∧ yX8_size.cls ≠ "java/lang/invoke/VarHandle" ∧ (parseMethodDescriptor yX8_size.desc).map (fun d => d.parameters.length) = some 2 := by decide +kernel
