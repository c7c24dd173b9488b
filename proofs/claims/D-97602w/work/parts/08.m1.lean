/-! the model: its world -/
abbrev mS : sp_ := ([(99, 0, [.inr (.inl 0), .inl 1, .inr (.inl 2), .inr (.inl 3), .inr (.inl 4), .inr (.inl 5), .inr (.inl 6), .inl 7, .inr (.inl 8), .inl 9, .inl 10, .inl 11, .inl 12, .inl 13, .inl 14, .inr (.inl 15), .inr (.inl 16), .inr (.inl 17), .inr (.inl 18), .inr (.inl 19), .inr (.inl 20), .inr (.inl 21), .inr (.inl 22), .inl 23])], [(0, 2044, .int), (2, 2, .boolean), (3, 8, .int), (4, 8, .int), (5, 320, .int), (6, 40, .int), (8, 120, .int), (15, 8, .int), (16, 8, .int), (17, 9, .int), (18, 9, .int), (19, 9, .int), (20, 32, .int), (21, 10, .int), (22, 16, .int)], [])
theorem mwf : wfS mS := ⟨by decide +kernel, by decide +kernel, by decide +kernel, by decide +kernel, by decide +kernel, by decide +kernel⟩
theorem mO : ((99, 0, [.inr (.inl 0), .inl 1, .inr (.inl 2), .inr (.inl 3), .inr (.inl 4), .inr (.inl 5), .inr (.inl 6), .inl 7, .inr (.inl 8), .inl 9, .inl 10, .inl 11, .inl 12, .inl 13, .inl 14, .inr (.inl 15), .inr (.inl 16), .inr (.inl 17), .inr (.inl 18), .inr (.inl 19), .inr (.inl 20), .inr (.inl 21), .inr (.inl 22), .inl 23]) : Nat × Nat × List fc_) ∈ mS.1 := List.mem_of_getElem? (i := 0) rfl
theorem mA0 : ((0, 2044, .int) : Nat × Nat × FieldType) ∈ mS.2.1 := List.mem_of_getElem? (i := 0) rfl
theorem mA2 : ((2, 2, .boolean) : Nat × Nat × FieldType) ∈ mS.2.1 := List.mem_of_getElem? (i := 1) rfl
theorem mA3 : ((3, 8, .int) : Nat × Nat × FieldType) ∈ mS.2.1 := List.mem_of_getElem? (i := 2) rfl
theorem mA4 : ((4, 8, .int) : Nat × Nat × FieldType) ∈ mS.2.1 := List.mem_of_getElem? (i := 3) rfl
theorem mA5 : ((5, 320, .int) : Nat × Nat × FieldType) ∈ mS.2.1 := List.mem_of_getElem? (i := 4) rfl
theorem mA6 : ((6, 40, .int) : Nat × Nat × FieldType) ∈ mS.2.1 := List.mem_of_getElem? (i := 5) rfl
theorem mA8 : ((8, 120, .int) : Nat × Nat × FieldType) ∈ mS.2.1 := List.mem_of_getElem? (i := 6) rfl
theorem mA15 : ((15, 8, .int) : Nat × Nat × FieldType) ∈ mS.2.1 := List.mem_of_getElem? (i := 7) rfl
theorem mA16 : ((16, 8, .int) : Nat × Nat × FieldType) ∈ mS.2.1 := List.mem_of_getElem? (i := 8) rfl
theorem mA17 : ((17, 9, .int) : Nat × Nat × FieldType) ∈ mS.2.1 := List.mem_of_getElem? (i := 9) rfl
theorem mA18 : ((18, 9, .int) : Nat × Nat × FieldType) ∈ mS.2.1 := List.mem_of_getElem? (i := 10) rfl
theorem mA19 : ((19, 9, .int) : Nat × Nat × FieldType) ∈ mS.2.1 := List.mem_of_getElem? (i := 11) rfl
theorem mA20 : ((20, 32, .int) : Nat × Nat × FieldType) ∈ mS.2.1 := List.mem_of_getElem? (i := 12) rfl
theorem mA21 : ((21, 10, .int) : Nat × Nat × FieldType) ∈ mS.2.1 := List.mem_of_getElem? (i := 13) rfl
theorem mA22 : ((22, 16, .int) : Nat × Nat × FieldType) ∈ mS.2.1 := List.mem_of_getElem? (i := 14) rfl
/-! in -/
def m_in (a0 : Int64) (a1 : Int64) (a2 : Int64) : Option (Int32) :=
  ob1 (if (lg_cmp a0 a1) < 0 then ((some 0 : Option (Int32))) else (if 0 < (lg_cmp a0 a2) then ((some 0 : Option (Int32))) else ((some 1 : Option (Int32))))) fun (v1 : Int32) =>
  zO v1
set_option maxRecDepth 100000 in
set_option maxHeartbeats 4000000 in
theorem m_in_met (l : Launch) (D : dd_) (ad : Nat → Nat) (a0 : Int64) (a1 : Int64) (a2 : Int64) (r : Int32) (hf : m_in a0 a1 a2 = some r) : Met l yX3_in (ws_ yX3_in cX3_in 6 (some .boolean)) ({ frames := 1, cells := 0, slots := 0, locals := 16 }) (PcW D nS ad (fun _ => 0) (fun _ _ => 0) nR nG [.long a0, .long a1, .long a2]) (QcR (some (.int r))) 0 0 (fun _ => False) := by
  refine Met.ofW (cc := cX3_in) (maxL := 6) (ret := (some .boolean)) (by decide) rfl ?_
  intro p e s m args below meth c s₁ B hml hv
  obtain ⟨rfl, hK, hW⟩ := hv
  have hx := B.exec
  have hb := B.bytes
  have hr := B.returns
  have hts := atoms_spec (ws := (ws_ yX3_in cX3_in 6 (some .boolean))) B.pre
  have hts : ∀ w ∈ lw_all, w.before _ s = true := fun w h => hts w (List.mem_cons_of_mem _ h)
  have hown : s.vm.findClass RX3 = some m.cls := findClass_of_methodNamed B.named
  have hlocks := B.notSynchronized
  have hRf : 1 ≤ (headSpec (ws_ yX3_in cX3_in 6 (some .boolean)) ({ frames := 1, cells := 0, slots := 0, locals := 16 })).room.frames := Nat.le_refl _
  have hRl : 16 ≤ (headSpec (ws_ yX3_in cX3_in 6 (some .boolean)) ({ frames := 1, cells := 0, slots := 0, locals := 16 })).room.locals := Nat.le_refl _
  have hcs : 0 ≤ (headSpec (ws_ yX3_in cX3_in 6 (some .boolean)) ({ frames := 1, cells := 0, slots := 0, locals := 16 })).room.cells ∧ 0 ≤ (headSpec (ws_ yX3_in cX3_in 6 (some .boolean)) ({ frames := 1, cells := 0, slots := 0, locals := 16 })).room.slots := ⟨Nat.zero_le _, Nat.zero_le _⟩
  have hl := lv_entry ([.long a0, .long a1, .long a2]) (n := 6) (Nat.le_of_ble_eq_true rfl)
  rw [lg_entry_eq]
  generalize (lg_sl ([.long a0, .long a1, .long a2]) ++ List.replicate (6 - (lg_sl ([.long a0, .long a1, .long a2])).length) Slot.unset).toArray = ls at hl ⊢
  have hl : lv_has ls 6 [(0, .long a0), (2, .long a1), (4, .long a2)] := hl
  have hf : (ob1 (if (lg_cmp a0 a1) < 0 then ((some 0 : Option (Int32))) else (if 0 < (lg_cmp a0 a2) then ((some 0 : Option (Int32))) else ((some 1 : Option (Int32))))) fun (v1 : Int32) =>
    zO v1) = some r := hf
  refine lv_lload_n hx hb dX3_in_0 rfl (lv_at hl 0 rfl) ?_
  refine lv_lload_n hx hb dX3_in_1 rfl (lv_at hl 1 rfl) ?_
  refine W.lcmp hx hb dX3_in_2 ?_
  obtain ⟨v1, hm1, hf⟩ := ob1_e hf
  refine w_cutL (nL := 6) (L := []) (pcj := 18) (st := [.int v1]) (fun ls hl => ?_) (fun K1 => ?_)
  · obtain ⟨hz, rfl⟩ := zO_e hf
    exact W.zret hx hb hr (nar_z hz) (fun t ht _ => ⟨rfl, ht⟩) (fun q hq => by cases hq) dX3_in_18
  · refine lv_if_lt (tgt := 17) hx hb dX3_in_3 (by decide) (fun c2 => ?_) (fun c2 => ?_)
    · rw [if_pos c2] at hm1
      refine lv_iconst (v := 0) hx hb dX3_in_17 (by decide) ?_
      obtain rfl := so1 hm1
      exact K1 ls (lv_sub hl [] rfl)
    · rw [if_neg c2] at hm1
      refine lv_lload_n hx hb dX3_in_6 rfl (lv_at hl 0 rfl) ?_
      refine lv_lload hx hb dX3_in_7 (lv_at hl 2 rfl) ?_
      refine W.lcmp hx hb dX3_in_9 ?_
      refine lv_if_gt (tgt := 17) hx hb dX3_in_10 (by decide) (fun c3 => ?_) (fun c3 => ?_)
      · rw [if_pos c3] at hm1
        refine lv_iconst (v := 0) hx hb dX3_in_17 (by decide) ?_
        obtain rfl := so1 hm1
        exact K1 ls (lv_sub hl [] rfl)
      · rw [if_neg c3] at hm1
        refine lv_iconst (v := 1) hx hb dX3_in_13 (by decide) ?_
        refine lv_goto (tgt := 18) hx hb dX3_in_14 (by decide) ?_
        obtain rfl := so1 hm1
        exact K1 ls (lv_sub hl [] rfl)
theorem m_in_ds : yX3_in.cls = RX3 ∧ yX3_in.cls ≠ "java/lang/invoke/MethodHandle" ∧ yX3_in.cls ≠ "java/lang/invoke/VarHandle" ∧ (parseMethodDescriptor yX3_in.desc).map (fun d => d.parameters.length) = some 3 := by decide +kernel
/-! isRow -/
def m_isRow (a0 : Int32) : Option (Int32) :=
  ob1 (m_in a0.toInt64 0 7) fun (v1 : Int32) =>
  zO v1
set_option maxRecDepth 100000 in
set_option maxHeartbeats 4000000 in
theorem m_isRow_met (l : Launch) (D : dd_) (ad : Nat → Nat) (a0 : Int32) (r : Int32) (hf : m_isRow a0 = some r) : Met l yX3_isRow (ws_ yX3_isRow cX3_isRow 1 (some .boolean)) ({ frames := 2, cells := 0, slots := 0, locals := 41 }) (PcW D nS ad (fun _ => 0) (fun _ _ => 0) nR nG [.int a0]) (QcR (some (.int r))) 0 0 (fun _ => False) := by
  refine Met.ofW (cc := cX3_isRow) (maxL := 1) (ret := (some .boolean)) (by decide) rfl ?_
  intro p e s m args below meth c s₁ B hml hv
  obtain ⟨rfl, hK, hW⟩ := hv
  have hx := B.exec
  have hb := B.bytes
  have hr := B.returns
  have hts := atoms_spec (ws := (ws_ yX3_isRow cX3_isRow 1 (some .boolean))) B.pre
  have hts : ∀ w ∈ lw_all, w.before _ s = true := fun w h => hts w (List.mem_cons_of_mem _ h)
  have hown : s.vm.findClass RX3 = some m.cls := findClass_of_methodNamed B.named
  have hlocks := B.notSynchronized
  have hRf : 2 ≤ (headSpec (ws_ yX3_isRow cX3_isRow 1 (some .boolean)) ({ frames := 2, cells := 0, slots := 0, locals := 41 })).room.frames := Nat.le_refl _
  have hRl : 41 ≤ (headSpec (ws_ yX3_isRow cX3_isRow 1 (some .boolean)) ({ frames := 2, cells := 0, slots := 0, locals := 41 })).room.locals := Nat.le_refl _
  have hcs : 0 ≤ (headSpec (ws_ yX3_isRow cX3_isRow 1 (some .boolean)) ({ frames := 2, cells := 0, slots := 0, locals := 41 })).room.cells ∧ 0 ≤ (headSpec (ws_ yX3_isRow cX3_isRow 1 (some .boolean)) ({ frames := 2, cells := 0, slots := 0, locals := 41 })).room.slots := ⟨Nat.zero_le _, Nat.zero_le _⟩
  have hl := lv_entry ([.int a0]) (n := 1) (Nat.le_of_ble_eq_true rfl)
  rw [lg_entry_eq]
  generalize (lg_sl ([.int a0]) ++ List.replicate (1 - (lg_sl ([.int a0])).length) Slot.unset).toArray = ls at hl ⊢
  have hl : lv_has ls 1 [(0, .int a0)] := hl
  have hf : (ob1 (m_in a0.toInt64 0 7) fun (v1 : Int32) =>
    zO v1) = some r := hf
  refine lv_iload_n hx hb dX3_isRow_0 rfl (lv_at hl 0 rfl) ?_
  refine lv_i2l (v := a0.toInt64) hx hb dX3_isRow_1 rfl ?_
  refine lv_lconst (v := 0) hx hb dX3_isRow_2 (by decide) ?_
  refine lv_ldc2 (v := 7) hx hb hown (hts _ q1293) dX3_isRow_3 ?_
  obtain ⟨v1, h1, hf⟩ := ob1_e hf
  refine g_sR (ov := some (.int v1)) (D := D) (Sc := nS) (adc := ad) (Ic := (fun _ => 0)) (Ac := (fun _ _ => 0)) (Rc := nR) (Gc := nG) (As := [.long a0.toInt64, .long 0, .long 7]) (rest := []) ⟨hx, hb, hml, hown, hts⟩ (m_in_met l D ad a0.toInt64 0 7 v1 h1) (va_cwS 3 hts (lw_S q1294 q1295 q82 q1296) rfl rfl rfl m_in_ds.2 ⟨Nat.le_trans (Nat.le_of_ble_eq_true rfl) hRf, Nat.le_trans (Nat.le_of_ble_eq_true rfl) hRl⟩) hK WH_nil hcs rfl hl.1 rfl (Nat.le_of_ble_eq_true rfl) dX3_isRow_6 ?_
  obtain ⟨hz, rfl⟩ := zO_e hf
  exact W.zret hx hb hr (nar_z hz) (fun t ht _ => ⟨rfl, ht⟩) (fun q hq => by cases hq) dX3_isRow_9
theorem m_isRow_ds : yX3_isRow.cls = RX3 ∧ yX3_isRow.cls ≠ "java/lang/invoke/MethodHandle" ∧ yX3_isRow.cls ≠ "java/lang/invoke/VarHandle" ∧ (parseMethodDescriptor yX3_isRow.desc).map (fun d => d.parameters.length) = some 1 := by decide +kernel
/-! found -/
def m_found (I : Nat → Int32) (A : Nat → Nat → Int32) (a0 : Int32) : Option (Int32 × (Nat → Int32) × (Nat → Nat → Int32)) :=
  some ((-1000010) - a0, upd I 7 a0, A)
set_option maxRecDepth 100000 in
set_option maxHeartbeats 4000000 in
theorem m_found_met (l : Launch) (D : dd_) (ad : Nat → Nat) (hI : Inj mS ad) (I : Nat → Int32) (A : Nat → Nat → Int32) (a0 : Int32) (r : Int32) (I1 : (Nat → Int32)) (A1 : (Nat → Nat → Int32)) (hf : m_found I A a0 = some (r, I1, A1)) : Met l yX3_found (ws_ yX3_found cX3_found 2 (some .int)) ({ frames := 1, cells := 0, slots := 0, locals := 16 }) (PcW D mS ad I A nR nG [.ref (ad 99), .int a0]) (QcW D mS ad I1 A1 nR nG (some (.int r))) 0 0 (frS mS ad) := by
  refine Met.ofW (cc := cX3_found) (maxL := 2) (ret := (some .int)) (by decide) rfl ?_
  intro p e s m args below meth c s₁ B hml hv
  obtain ⟨rfl, hK, hW⟩ := hv
  have hx := B.exec
  have hb := B.bytes
  have hr := B.returns
  have hts := atoms_spec (ws := (ws_ yX3_found cX3_found 2 (some .int))) B.pre
  have hts : ∀ w ∈ lw_all, w.before _ s = true := fun w h => hts w (List.mem_cons_of_mem _ h)
  have hown : s.vm.findClass RX3 = some m.cls := findClass_of_methodNamed B.named
  have hlocks := B.notSynchronized
  have hRf : 1 ≤ (headSpec (ws_ yX3_found cX3_found 2 (some .int)) ({ frames := 1, cells := 0, slots := 0, locals := 16 })).room.frames := Nat.le_refl _
  have hRl : 16 ≤ (headSpec (ws_ yX3_found cX3_found 2 (some .int)) ({ frames := 1, cells := 0, slots := 0, locals := 16 })).room.locals := Nat.le_refl _
  have hcs : 0 ≤ (headSpec (ws_ yX3_found cX3_found 2 (some .int)) ({ frames := 1, cells := 0, slots := 0, locals := 16 })).room.cells ∧ 0 ≤ (headSpec (ws_ yX3_found cX3_found 2 (some .int)) ({ frames := 1, cells := 0, slots := 0, locals := 16 })).room.slots := ⟨Nat.zero_le _, Nat.zero_le _⟩
  have hA : ∀ i ∈ idxS mS, frS mS ad (ad i) := fun i hi => ⟨i, hi, rfl⟩
  have hS : va_S (frS mS ad) s.heap s.heap [] := va_S.rf
  have hl := lv_entry ([.ref (ad 99), .int a0]) (n := 2) (Nat.le_of_ble_eq_true rfl)
  rw [lg_entry_eq]
  generalize (lg_sl ([.ref (ad 99), .int a0]) ++ List.replicate (2 - (lg_sl ([.ref (ad 99), .int a0])).length) Slot.unset).toArray = ls at hl ⊢
  have hl : lv_has ls 2 [(0, .ref (ad 99)), (1, .int a0)] := hl
  have hf : (some ((-1000010) - a0, upd I 7 a0, A)) = some (r, I1, A1) := hf
  refine lv_aload_n hx hb dX3_found_0 rfl (lv_at hl 0 rfl) ?_
  refine lv_iload_n hx hb dX3_found_1 rfl (lv_at hl 1 rfl) ?_
  refine g_putI hx hb hts hown hK mwf hI hA hW hS mO in_X3 tyX3 tyX3_ok nmX3 rfl 7 7 (by decide) rfl q1219 rfl rfl (by decide +kernel) dX3_found_2 (fun H locs hW hS => ?_)
  refine lv_ldc (v := (-1000010)) hx hb hown (hts _ q1303) dX3_found_5 ?_
  refine lv_iload_n hx hb dX3_found_7 rfl (lv_at hl 1 rfl) ?_
  refine lv_isub hx hb dX3_found_8 ?_
  obtain ⟨rfl, rfl, rfl⟩ := so3 hf
  exact W.iret hx hb hr (fun t ht _ => ⟨rfl, by rw [ht]; exact hW, hS.F ht⟩) hS.2.2 dX3_found_9
theorem m_found_ds : yX3_found.cls = RX3 ∧ yX3_found.cls ≠ "java/lang/invoke/MethodHandle" ∧ yX3_found.cls ≠ "java/lang/invoke/VarHandle" ∧ (parseMethodDescriptor yX3_found.desc).map (fun d => d.parameters.length) = some 1 := by decide +kernel
/-! well -/
def m_well (I : Nat → Int32) (A : Nat → Nat → Int32) (a0 : Int32) : Option (Int32 × (Nat → Int32) × (Nat → Nat → Int32)) :=
  some (a0, upd I 7 0, A)
set_option maxRecDepth 100000 in
set_option maxHeartbeats 4000000 in
theorem m_well_met (l : Launch) (D : dd_) (ad : Nat → Nat) (hI : Inj mS ad) (I : Nat → Int32) (A : Nat → Nat → Int32) (a0 : Int32) (r : Int32) (I1 : (Nat → Int32)) (A1 : (Nat → Nat → Int32)) (hf : m_well I A a0 = some (r, I1, A1)) : Met l yX3_well (ws_ yX3_well cX3_well 2 (some .int)) ({ frames := 1, cells := 0, slots := 0, locals := 16 }) (PcW D mS ad I A nR nG [.ref (ad 99), .int a0]) (QcW D mS ad I1 A1 nR nG (some (.int r))) 0 0 (frS mS ad) := by
  refine Met.ofW (cc := cX3_well) (maxL := 2) (ret := (some .int)) (by decide) rfl ?_
  intro p e s m args below meth c s₁ B hml hv
  obtain ⟨rfl, hK, hW⟩ := hv
  have hx := B.exec
  have hb := B.bytes
  have hr := B.returns
  have hts := atoms_spec (ws := (ws_ yX3_well cX3_well 2 (some .int))) B.pre
  have hts : ∀ w ∈ lw_all, w.before _ s = true := fun w h => hts w (List.mem_cons_of_mem _ h)
  have hown : s.vm.findClass RX3 = some m.cls := findClass_of_methodNamed B.named
  have hlocks := B.notSynchronized
  have hRf : 1 ≤ (headSpec (ws_ yX3_well cX3_well 2 (some .int)) ({ frames := 1, cells := 0, slots := 0, locals := 16 })).room.frames := Nat.le_refl _
  have hRl : 16 ≤ (headSpec (ws_ yX3_well cX3_well 2 (some .int)) ({ frames := 1, cells := 0, slots := 0, locals := 16 })).room.locals := Nat.le_refl _
  have hcs : 0 ≤ (headSpec (ws_ yX3_well cX3_well 2 (some .int)) ({ frames := 1, cells := 0, slots := 0, locals := 16 })).room.cells ∧ 0 ≤ (headSpec (ws_ yX3_well cX3_well 2 (some .int)) ({ frames := 1, cells := 0, slots := 0, locals := 16 })).room.slots := ⟨Nat.zero_le _, Nat.zero_le _⟩
  have hA : ∀ i ∈ idxS mS, frS mS ad (ad i) := fun i hi => ⟨i, hi, rfl⟩
  have hS : va_S (frS mS ad) s.heap s.heap [] := va_S.rf
  have hl := lv_entry ([.ref (ad 99), .int a0]) (n := 2) (Nat.le_of_ble_eq_true rfl)
  rw [lg_entry_eq]
  generalize (lg_sl ([.ref (ad 99), .int a0]) ++ List.replicate (2 - (lg_sl ([.ref (ad 99), .int a0])).length) Slot.unset).toArray = ls at hl ⊢
  have hl : lv_has ls 2 [(0, .ref (ad 99)), (1, .int a0)] := hl
  have hf : (some (a0, upd I 7 0, A)) = some (r, I1, A1) := hf
  refine lv_aload_n hx hb dX3_well_0 rfl (lv_at hl 0 rfl) ?_
  refine lv_iconst (v := 0) hx hb dX3_well_1 (by decide) ?_
  refine g_putI hx hb hts hown hK mwf hI hA hW hS mO in_X3 tyX3 tyX3_ok nmX3 rfl 7 7 (by decide) rfl q1219 rfl rfl (by decide +kernel) dX3_well_2 (fun H locs hW hS => ?_)
  refine lv_iload_n hx hb dX3_well_5 rfl (lv_at hl 1 rfl) ?_
  obtain ⟨rfl, rfl, rfl⟩ := so3 hf
  exact W.iret hx hb hr (fun t ht _ => ⟨rfl, by rw [ht]; exact hW, hS.F ht⟩) hS.2.2 dX3_well_6
theorem m_well_ds : yX3_well.cls = RX3 ∧ yX3_well.cls ≠ "java/lang/invoke/MethodHandle" ∧ yX3_well.cls ≠ "java/lang/invoke/VarHandle" ∧ (parseMethodDescriptor yX3_well.desc).map (fun d => d.parameters.length) = some 1 := by decide +kernel
/-! row -/
def m_row_L55 (u1 : Int32) (u3 : Int32) : Nat → (Nat → Int32) → (Nat → Nat → Int32) → Int32 → Option ((Nat → Int32) × (Nat → Nat → Int32) × Int32)
  | 0, _, _, _ => none
  | n + 1, I, A, x4 =>
    if 40 ≤ x4 then (some (I, A, x4)) else (ob1 (stO (A 5) 320 ((40 * u1) + x4) 0) fun (f2 : Nat → Int32) =>
      m_row_L55 u1 u3 n I (va_up A 5 f2) (x4 + 1))
set_option maxRecDepth 100000 in
set_option maxHeartbeats 4000000 in
theorem m_row_L55_w {p : Program} {l : Launch} {e : Env} {R0 : Room} {s : State} {m : MethodId} {args : Array Value} {below : List Frame} {meth : Method} {c : Code} {cells slots : Nat} {Q : State → Prop} {D : dd_} {ad : Nat → Nat} (hx : p.tables.exec = Jvm.exec) (hb : c.code = cX3_row) (hml : c.maxLocals = 5) (hown : s.vm.findClass RX3 = some m.cls) (hts : ∀ w ∈ lw_all, w.before args s = true) (hK : Kx D s) (hRf : 3 ≤ R0.frames) (hRl : 61 ≤ R0.locals) (hcs : cells ≤ R0.cells ∧ slots ≤ R0.slots) (hI : Inj mS ad) (u1 : Int32) (u3 : Int32) (I9 : (Nat → Int32)) (A9 : (Nat → Nat → Int32)) (y4 : Int32) (KX : ∀ (H : Heap) (locs : List Loc) (ls : Array Slot), WH D mS ad I9 A9 nR nG H → va_S (frS mS ad) s.heap H locs → lv_has ls 5 [(0, .ref (ad 99)), (3, .int u3)] → W p l e R0 s m args below meth c H locs cells slots Q (F0 m 81 ls [])) : ∀ (n : Nat) (I : (Nat → Int32)) (A : (Nat → Nat → Int32)) (x4 : Int32) (H : Heap) (locs : List Loc) (ls : Array Slot), m_row_L55 u1 u3 n I A x4 = some (I9, A9, y4) → WH D mS ad I A nR nG H → va_S (frS mS ad) s.heap H locs → lv_has ls 5 [(0, .ref (ad 99)), (1, .int u1), (3, .int u3), (4, .int x4)] → W p l e R0 s m args below meth c H locs cells slots Q (F0 m 55 ls []) := by
  intro n
  have hA : ∀ i ∈ idxS mS, frS mS ad (ad i) := fun i hi => ⟨i, hi, rfl⟩
  induction n with
  | zero =>
    intro I A x4 H locs ls hf
    exact nomatch (show (none : Option ((Nat → Int32) × (Nat → Nat → Int32) × Int32)) = some (I9, A9, y4) from hf)
  | succ n ih =>
    intro I A x4 H locs ls hf hW hS hl
    have hf : (if 40 ≤ x4 then (some (I, A, x4)) else (ob1 (stO (A 5) 320 ((40 * u1) + x4) 0) fun (f2 : Nat → Int32) =>
          m_row_L55 u1 u3 n I (va_up A 5 f2) (x4 + 1))) = some (I9, A9, y4) := hf
    refine lv_iload hx hb dX3_row_55 (lv_at hl 3 rfl) ?_
    refine lv_bipush (v := 40) hx hb dX3_row_57 (by decide) ?_
    refine lv_icmp_ge (tgt := 81) hx hb dX3_row_59 (by decide) (fun c1 => ?_) (fun c1 => ?_)
    · rw [if_pos c1] at hf
      obtain ⟨rfl, rfl, rfl⟩ := so3 hf
      exact KX _ _ ls hW hS (lv_sub hl [0, 2] rfl)
    · rw [if_neg c1] at hf
      refine lv_aload_n hx hb dX3_row_62 rfl (lv_at hl 0 rfl) ?_
      refine g_get (v := .ref (ad 5)) hx hb hts hown hK hW mO in_X3 rfl 5 (by decide) q1217 rfl rfl dX3_row_63 ?_
      refine lv_bipush (v := 40) hx hb dX3_row_66 (by decide) ?_
      refine lv_iload_n hx hb dX3_row_68 rfl (lv_at hl 1 rfl) ?_
      refine lv_imul hx hb dX3_row_69 ?_
      refine lv_iload hx hb dX3_row_70 (lv_at hl 3 rfl) ?_
      refine lv_iadd hx hb dX3_row_72 ?_
      refine lv_iconst (v := 0) hx hb dX3_row_73 (by decide) ?_
      obtain ⟨f2, hf2, hf⟩ := ob1_e hf
      refine g_iast hx hb hK mwf hI hA hW hS mA5 hf2 dX3_row_74 (fun H locs hW hS => ?_)
      refine lv_iinc (v := x4 + 1) (lv' := [(4, .int (x4 + 1)), (0, .ref (ad 99)), (1, .int u1), (3, .int u3)]) hx hb dX3_row_75 hl (k := 3) rfl (by rfl) (by decide) rfl (fun ls hl => ?_)
      refine lv_goto (tgt := 55) hx hb dX3_row_78 (by decide) ?_
      exact ih I (va_up A 5 f2) (x4 + 1) _ _ ls hf hW hS (lv_sub hl [1, 2, 3, 0] rfl)
def m_row (I : Nat → Int32) (A : Nat → Nat → Int32) (a0 : Int32) (a1 : Int32) (a2 : Int32) : Option (Int32 × (Nat → Int32) × (Nat → Nat → Int32)) :=
  ob1 (m_isRow a0) fun (v1 : Int32) =>
  if v1 = 0 then (some ((-1000001), I, A)) else (ob1 (m_in a1.toInt64 0 2) fun (v3 : Int32) =>
    if v3 = 0 then (some ((-1000001), I, A)) else (if a2 ≤ 40 then (if 0 ≤ a2 then (ob1 (stO (A 3) 8 a0 a1) fun (f7 : Nat → Int32) =>
          ob1 (stO ((va_up A 3 f7) 4) 8 a0 a2) fun (f8 : Nat → Int32) =>
          ob3 (m_row_L55 a0 a2 NF I (va_up (va_up A 3 f7) 4 f8) 0) fun (I9 : Nat → Int32) (A10 : Nat → Nat → Int32) (v11 : Int32) =>
          ob3 (m_well I9 A10 a2) fun (v12 : Int32) (I13 : Nat → Int32) (A14 : Nat → Nat → Int32) =>
          some (v12, I13, A14)) else (ob3 (m_found I A 4) fun (v15 : Int32) (I16 : Nat → Int32) (A17 : Nat → Nat → Int32) =>
          some (v15, I16, A17))) else (some ((-1000001), I, A))))
set_option maxRecDepth 100000 in
set_option maxHeartbeats 4000000 in
theorem m_row_met (l : Launch) (D : dd_) (ad : Nat → Nat) (hI : Inj mS ad) (I : Nat → Int32) (A : Nat → Nat → Int32) (a0 : Int32) (a1 : Int32) (a2 : Int32) (r : Int32) (I1 : (Nat → Int32)) (A1 : (Nat → Nat → Int32)) (hf : m_row I A a0 a1 a2 = some (r, I1, A1)) : Met l yX3_row (ws_ yX3_row cX3_row 5 (some .int)) ({ frames := 3, cells := 0, slots := 0, locals := 61 }) (PcW D mS ad I A nR nG [.ref (ad 99), .int a0, .int a1, .int a2]) (QcW D mS ad I1 A1 nR nG (some (.int r))) 0 0 (frS mS ad) := by
  refine Met.ofW (cc := cX3_row) (maxL := 5) (ret := (some .int)) (by decide) rfl ?_
  intro p e s m args below meth c s₁ B hml hv
  obtain ⟨rfl, hK, hW⟩ := hv
  have hx := B.exec
  have hb := B.bytes
  have hr := B.returns
  have hts := atoms_spec (ws := (ws_ yX3_row cX3_row 5 (some .int))) B.pre
  have hts : ∀ w ∈ lw_all, w.before _ s = true := fun w h => hts w (List.mem_cons_of_mem _ h)
  have hown : s.vm.findClass RX3 = some m.cls := findClass_of_methodNamed B.named
  have hlocks := B.notSynchronized
  have hRf : 3 ≤ (headSpec (ws_ yX3_row cX3_row 5 (some .int)) ({ frames := 3, cells := 0, slots := 0, locals := 61 })).room.frames := Nat.le_refl _
  have hRl : 61 ≤ (headSpec (ws_ yX3_row cX3_row 5 (some .int)) ({ frames := 3, cells := 0, slots := 0, locals := 61 })).room.locals := Nat.le_refl _
  have hcs : 0 ≤ (headSpec (ws_ yX3_row cX3_row 5 (some .int)) ({ frames := 3, cells := 0, slots := 0, locals := 61 })).room.cells ∧ 0 ≤ (headSpec (ws_ yX3_row cX3_row 5 (some .int)) ({ frames := 3, cells := 0, slots := 0, locals := 61 })).room.slots := ⟨Nat.zero_le _, Nat.zero_le _⟩
  have hA : ∀ i ∈ idxS mS, frS mS ad (ad i) := fun i hi => ⟨i, hi, rfl⟩
  have hS : va_S (frS mS ad) s.heap s.heap [] := va_S.rf
  have hl := lv_entry ([.ref (ad 99), .int a0, .int a1, .int a2]) (n := 5) (Nat.le_of_ble_eq_true rfl)
  rw [lg_entry_eq]
  generalize (lg_sl ([.ref (ad 99), .int a0, .int a1, .int a2]) ++ List.replicate (5 - (lg_sl ([.ref (ad 99), .int a0, .int a1, .int a2])).length) Slot.unset).toArray = ls at hl ⊢
  have hl : lv_has ls 5 [(0, .ref (ad 99)), (1, .int a0), (2, .int a1), (3, .int a2)] := hl
  have hf : (ob1 (m_isRow a0) fun (v1 : Int32) =>
    if v1 = 0 then (some ((-1000001), I, A)) else (ob1 (m_in a1.toInt64 0 2) fun (v3 : Int32) =>
      if v3 = 0 then (some ((-1000001), I, A)) else (if a2 ≤ 40 then (if 0 ≤ a2 then (ob1 (stO (A 3) 8 a0 a1) fun (f7 : Nat → Int32) =>
            ob1 (stO ((va_up A 3 f7) 4) 8 a0 a2) fun (f8 : Nat → Int32) =>
            ob3 (m_row_L55 a0 a2 NF I (va_up (va_up A 3 f7) 4 f8) 0) fun (I9 : Nat → Int32) (A10 : Nat → Nat → Int32) (v11 : Int32) =>
            ob3 (m_well I9 A10 a2) fun (v12 : Int32) (I13 : Nat → Int32) (A14 : Nat → Nat → Int32) =>
            some (v12, I13, A14)) else (ob3 (m_found I A 4) fun (v15 : Int32) (I16 : Nat → Int32) (A17 : Nat → Nat → Int32) =>
            some (v15, I16, A17))) else (some ((-1000001), I, A))))) = some (r, I1, A1) := hf
  refine lv_iload_n hx hb dX3_row_0 rfl (lv_at hl 1 rfl) ?_
  obtain ⟨v1, h1, hf⟩ := ob1_e hf
  refine g_sR (ov := some (.int v1)) (D := D) (Sc := nS) (adc := ad) (Ic := (fun _ => 0)) (Ac := (fun _ _ => 0)) (Rc := nR) (Gc := nG) (As := [.int a0]) (rest := []) ⟨hx, hb, hml, hown, hts⟩ (m_isRow_met l D ad a0 v1 h1) (va_cwS 1 hts (lw_S q1290 q1291 q82 q1292) rfl rfl rfl m_isRow_ds.2 ⟨Nat.le_trans (Nat.le_of_ble_eq_true rfl) hRf, Nat.le_trans (Nat.le_of_ble_eq_true rfl) hRl⟩) hK WH_nil hcs rfl hl.1 rfl (Nat.le_of_ble_eq_true rfl) dX3_row_1 ?_
  refine lv_if_eq (tgt := 25) hx hb dX3_row_4 (by decide) (fun c2 => ?_) (fun c2 => ?_)
  · rw [if_pos c2] at hf
    refine lv_ldc (v := (-1000001)) hx hb hown (hts _ q1298) dX3_row_25 ?_
    obtain ⟨rfl, rfl, rfl⟩ := so3 hf
    exact W.iret hx hb hr (fun t ht _ => ⟨rfl, by rw [ht]; exact hW, hS.F ht⟩) hS.2.2 dX3_row_27
  · rw [if_neg c2] at hf
    refine lv_iload_n hx hb dX3_row_7 rfl (lv_at hl 2 rfl) ?_
    refine lv_i2l (v := a1.toInt64) hx hb dX3_row_8 rfl ?_
    refine lv_lconst (v := 0) hx hb dX3_row_9 (by decide) ?_
    refine lv_ldc2 (v := 2) hx hb hown (hts _ q1297) dX3_row_10 ?_
    obtain ⟨v3, h3, hf⟩ := ob1_e hf
    refine g_sR (ov := some (.int v3)) (D := D) (Sc := nS) (adc := ad) (Ic := (fun _ => 0)) (Ac := (fun _ _ => 0)) (Rc := nR) (Gc := nG) (As := [.long a1.toInt64, .long 0, .long 2]) (rest := []) ⟨hx, hb, hml, hown, hts⟩ (m_in_met l D ad a1.toInt64 0 2 v3 h3) (va_cwS 3 hts (lw_S q1294 q1295 q82 q1296) rfl rfl rfl m_in_ds.2 ⟨Nat.le_trans (Nat.le_of_ble_eq_true rfl) hRf, Nat.le_trans (Nat.le_of_ble_eq_true rfl) hRl⟩) hK WH_nil hcs rfl hl.1 rfl (Nat.le_of_ble_eq_true rfl) dX3_row_13 ?_
    refine lv_if_eq (tgt := 25) hx hb dX3_row_16 (by decide) (fun c4 => ?_) (fun c4 => ?_)
    · rw [if_pos c4] at hf
      refine lv_ldc (v := (-1000001)) hx hb hown (hts _ q1298) dX3_row_25 ?_
      obtain ⟨rfl, rfl, rfl⟩ := so3 hf
      exact W.iret hx hb hr (fun t ht _ => ⟨rfl, by rw [ht]; exact hW, hS.F ht⟩) hS.2.2 dX3_row_27
    · rw [if_neg c4] at hf
      refine lv_iload_n hx hb dX3_row_19 rfl (lv_at hl 3 rfl) ?_
      refine lv_bipush (v := 40) hx hb dX3_row_20 (by decide) ?_
      refine lv_icmp_le (tgt := 28) hx hb dX3_row_22 (by decide) (fun c5 => ?_) (fun c5 => ?_)
      · rw [if_pos c5] at hf
        refine lv_iload_n hx hb dX3_row_28 rfl (lv_at hl 3 rfl) ?_
        refine lv_if_ge (tgt := 38) hx hb dX3_row_29 (by decide) (fun c6 => ?_) (fun c6 => ?_)
        · rw [if_pos c6] at hf
          refine lv_aload_n hx hb dX3_row_38 rfl (lv_at hl 0 rfl) ?_
          refine g_get (v := .ref (ad 3)) hx hb hts hown hK hW mO in_X3 rfl 3 (by decide) q1215 rfl rfl dX3_row_39 ?_
          refine lv_iload_n hx hb dX3_row_42 rfl (lv_at hl 1 rfl) ?_
          refine lv_iload_n hx hb dX3_row_43 rfl (lv_at hl 2 rfl) ?_
          obtain ⟨f7, hf7, hf⟩ := ob1_e hf
          refine g_iast hx hb hK mwf hI hA hW hS mA3 hf7 dX3_row_44 (fun H locs hW hS => ?_)
          refine lv_aload_n hx hb dX3_row_45 rfl (lv_at hl 0 rfl) ?_
          refine g_get (v := .ref (ad 4)) hx hb hts hown hK hW mO in_X3 rfl 4 (by decide) q1216 rfl rfl dX3_row_46 ?_
          refine lv_iload_n hx hb dX3_row_49 rfl (lv_at hl 1 rfl) ?_
          refine lv_iload_n hx hb dX3_row_50 rfl (lv_at hl 3 rfl) ?_
          obtain ⟨f8, hf8, hf⟩ := ob1_e hf
          refine g_iast hx hb hK mwf hI hA hW hS mA4 hf8 dX3_row_51 (fun H locs hW hS => ?_)
          refine lv_iconst (v := 0) hx hb dX3_row_52 (by decide) ?_
          refine lv_istore (lv' := [(4, .int 0), (0, .ref (ad 99)), (1, .int a0), (2, .int a1), (3, .int a2)]) hx hb dX3_row_53 hl (by decide) rfl (fun ls hl => ?_)
          obtain ⟨I9, A10, v11, hq11, hf⟩ := ob3_e hf
          refine m_row_L55_w hx hb hml hown hts hK hRf hRl hcs hI a0 a2 I9 A10 v11 (fun H locs ls hW hS hl => ?_) NF I (va_up (va_up A 3 f7) 4 f8) 0 _ _ ls hq11 hW hS (lv_sub hl [1, 2, 4, 0] rfl)
          refine lv_aload_n hx hb dX3_row_81 rfl (lv_at hl 0 rfl) ?_
          refine lv_iload_n hx hb dX3_row_82 rfl (lv_at hl 1 rfl) ?_
          obtain ⟨v12, I13, A14, h14, hf⟩ := ob3_e hf
          refine g_vW (ov := some (.int v12)) (D := D) (Sc := mS) (adc := ad) (Ic := I9) (Ac := A10) (Rc := nR) (Gc := nG) (As := [.int a2]) (rest := []) (Ic1 := I13) (Ac1 := A14) (Rc1 := nR) (Gc1 := nG) (b := ad 99) (C := RX3) ⟨hx, hb, hml, hown, hts⟩ (m_well_met l D ad hI I9 A10 a2 v12 I13 A14 h14) (g_cwV 1 hts (lw_V q1304 q1306 qs34 q82 q1307) rfl rfl m_well_ds ⟨Nat.le_trans (Nat.le_of_ble_eq_true rfl) hRf, Nat.le_trans (Nat.le_of_ble_eq_true rfl) hRl⟩) (g_recv hK hW mO rfl) hK hW hS hA hcs rfl hl.1 rfl (Nat.le_of_ble_eq_true rfl) dX3_row_83 (fun H locs hW _ hS => ?_)
          obtain ⟨rfl, rfl, rfl⟩ := so3 hf
          exact W.iret hx hb hr (fun t ht _ => ⟨rfl, by rw [ht]; exact hW, hS.F ht⟩) hS.2.2 dX3_row_86
        · rw [if_neg c6] at hf
          refine lv_aload_n hx hb dX3_row_32 rfl (lv_at hl 0 rfl) ?_
          refine lv_iconst (v := 4) hx hb dX3_row_33 (by decide) ?_
          obtain ⟨v15, I16, A17, h17, hf⟩ := ob3_e hf
          refine g_vW (ov := some (.int v15)) (D := D) (Sc := mS) (adc := ad) (Ic := I) (Ac := A) (Rc := nR) (Gc := nG) (As := [.int 4]) (rest := []) (Ic1 := I16) (Ac1 := A17) (Rc1 := nR) (Gc1 := nG) (b := ad 99) (C := RX3) ⟨hx, hb, hml, hown, hts⟩ (m_found_met l D ad hI I A 4 v15 I16 A17 h17) (g_cwV 1 hts (lw_V q1299 q1301 qs33 q82 q1302) rfl rfl m_found_ds ⟨Nat.le_trans (Nat.le_of_ble_eq_true rfl) hRf, Nat.le_trans (Nat.le_of_ble_eq_true rfl) hRl⟩) (g_recv hK hW mO rfl) hK hW hS hA hcs rfl hl.1 rfl (Nat.le_of_ble_eq_true rfl) dX3_row_34 (fun H locs hW _ hS => ?_)
          obtain ⟨rfl, rfl, rfl⟩ := so3 hf
          exact W.iret hx hb hr (fun t ht _ => ⟨rfl, by rw [ht]; exact hW, hS.F ht⟩) hS.2.2 dX3_row_37
      · rw [if_neg c5] at hf
        refine lv_ldc (v := (-1000001)) hx hb hown (hts _ q1298) dX3_row_25 ?_
        obtain ⟨rfl, rfl, rfl⟩ := so3 hf
        exact W.iret hx hb hr (fun t ht _ => ⟨rfl, by rw [ht]; exact hW, hS.F ht⟩) hS.2.2 dX3_row_27
theorem m_row_ds : yX3_row.cls = RX3 ∧ yX3_row.cls ≠ "java/lang/invoke/MethodHandle" ∧ yX3_row.cls ≠ "java/lang/invoke/VarHandle" ∧ (parseMethodDescriptor yX3_row.desc).map (fun d => d.parameters.length) = some 3 := by decide +kernel
/-! against -/
def m_against (I : Nat → Int32) (A : Nat → Nat → Int32) (a0 : Int32) (a1 : Int32) (a2 : Int32) : Option (Int32) :=
  ob1 (ldO (A 3) 8 a0) fun (v1 : Int32) =>
  ob1 (if 0 ≤ v1 then (if a1 < 0 then ((some 2 : Option (Int32))) else (if a2 < 0 then ((some 2 : Option (Int32))) else (ob1 (ldO (A 4) 8 a0) fun (v6 : Int32) =>
          if (lg_cmp (a1.toInt64 + a2.toInt64) v6.toInt64) ≤ 0 then ((some 0 : Option (Int32))) else ((some 2 : Option (Int32)))))) else ((some 1 : Option (Int32)))) fun (v2 : Int32) =>
  some v2
set_option maxRecDepth 100000 in
set_option maxHeartbeats 4000000 in
theorem m_against_met (l : Launch) (D : dd_) (ad : Nat → Nat) (I : Nat → Int32) (A : Nat → Nat → Int32) (a0 : Int32) (a1 : Int32) (a2 : Int32) (r : Int32) (hf : m_against I A a0 a1 a2 = some r) : Met l yX3_against (ws_ yX3_against cX3_against 4 (some .int)) ({ frames := 1, cells := 0, slots := 0, locals := 16 }) (PcW D mS ad I A nR nG [.ref (ad 99), .int a0, .int a1, .int a2]) (QcR (some (.int r))) 0 0 (fun _ => False) := by
  refine Met.ofW (cc := cX3_against) (maxL := 4) (ret := (some .int)) (by decide) rfl ?_
  intro p e s m args below meth c s₁ B hml hv
  obtain ⟨rfl, hK, hW⟩ := hv
  have hx := B.exec
  have hb := B.bytes
  have hr := B.returns
  have hts := atoms_spec (ws := (ws_ yX3_against cX3_against 4 (some .int))) B.pre
  have hts : ∀ w ∈ lw_all, w.before _ s = true := fun w h => hts w (List.mem_cons_of_mem _ h)
  have hown : s.vm.findClass RX3 = some m.cls := findClass_of_methodNamed B.named
  have hlocks := B.notSynchronized
  have hRf : 1 ≤ (headSpec (ws_ yX3_against cX3_against 4 (some .int)) ({ frames := 1, cells := 0, slots := 0, locals := 16 })).room.frames := Nat.le_refl _
  have hRl : 16 ≤ (headSpec (ws_ yX3_against cX3_against 4 (some .int)) ({ frames := 1, cells := 0, slots := 0, locals := 16 })).room.locals := Nat.le_refl _
  have hcs : 0 ≤ (headSpec (ws_ yX3_against cX3_against 4 (some .int)) ({ frames := 1, cells := 0, slots := 0, locals := 16 })).room.cells ∧ 0 ≤ (headSpec (ws_ yX3_against cX3_against 4 (some .int)) ({ frames := 1, cells := 0, slots := 0, locals := 16 })).room.slots := ⟨Nat.zero_le _, Nat.zero_le _⟩
  have hl := lv_entry ([.ref (ad 99), .int a0, .int a1, .int a2]) (n := 4) (Nat.le_of_ble_eq_true rfl)
  rw [lg_entry_eq]
  generalize (lg_sl ([.ref (ad 99), .int a0, .int a1, .int a2]) ++ List.replicate (4 - (lg_sl ([.ref (ad 99), .int a0, .int a1, .int a2])).length) Slot.unset).toArray = ls at hl ⊢
  have hl : lv_has ls 4 [(0, .ref (ad 99)), (1, .int a0), (2, .int a1), (3, .int a2)] := hl
  have hf : (ob1 (ldO (A 3) 8 a0) fun (v1 : Int32) =>
    ob1 (if 0 ≤ v1 then (if a1 < 0 then ((some 2 : Option (Int32))) else (if a2 < 0 then ((some 2 : Option (Int32))) else (ob1 (ldO (A 4) 8 a0) fun (v6 : Int32) =>
            if (lg_cmp (a1.toInt64 + a2.toInt64) v6.toInt64) ≤ 0 then ((some 0 : Option (Int32))) else ((some 2 : Option (Int32)))))) else ((some 1 : Option (Int32)))) fun (v2 : Int32) =>
    some v2) = some r := hf
  refine lv_aload_n hx hb dX3_against_0 rfl (lv_at hl 0 rfl) ?_
  refine g_get (v := .ref (ad 3)) hx hb hts hown hK hW mO in_X3 rfl 3 (by decide) q1215 rfl rfl dX3_against_1 ?_
  refine lv_iload_n hx hb dX3_against_4 rfl (lv_at hl 1 rfl) ?_
  obtain ⟨v1, hv1, hf⟩ := ob1_e hf
  refine g_iald hx hb hK hW mA3 hv1 dX3_against_5 ?_
  obtain ⟨v2, hm2, hf⟩ := ob1_e hf
  refine w_cutL (nL := 4) (L := []) (pcj := 42) (st := [.int v2]) (fun ls hl => ?_) (fun K2 => ?_)
  · obtain rfl := so1 hf
    exact W.iret hx hb hr (fun t ht _ => ⟨rfl, ht⟩) (fun q hq => by cases hq) dX3_against_42
  · refine lv_if_ge (tgt := 13) hx hb dX3_against_6 (by decide) (fun c3 => ?_) (fun c3 => ?_)
    · rw [if_pos c3] at hm2
      refine lv_iload_n hx hb dX3_against_13 rfl (lv_at hl 2 rfl) ?_
      refine lv_if_lt (tgt := 37) hx hb dX3_against_14 (by decide) (fun c4 => ?_) (fun c4 => ?_)
      · rw [if_pos c4] at hm2
        refine lv_iconst (v := 2) hx hb dX3_against_37 (by decide) ?_
        refine lv_goto (tgt := 42) hx hb dX3_against_38 (by decide) ?_
        obtain rfl := so1 hm2
        exact K2 ls (lv_sub hl [] rfl)
      · rw [if_neg c4] at hm2
        refine lv_iload_n hx hb dX3_against_17 rfl (lv_at hl 3 rfl) ?_
        refine lv_if_lt (tgt := 37) hx hb dX3_against_18 (by decide) (fun c5 => ?_) (fun c5 => ?_)
        · rw [if_pos c5] at hm2
          refine lv_iconst (v := 2) hx hb dX3_against_37 (by decide) ?_
          refine lv_goto (tgt := 42) hx hb dX3_against_38 (by decide) ?_
          obtain rfl := so1 hm2
          exact K2 ls (lv_sub hl [] rfl)
        · rw [if_neg c5] at hm2
          refine lv_iload_n hx hb dX3_against_21 rfl (lv_at hl 2 rfl) ?_
          refine lv_i2l (v := a1.toInt64) hx hb dX3_against_22 rfl ?_
          refine lv_iload_n hx hb dX3_against_23 rfl (lv_at hl 3 rfl) ?_
          refine lv_i2l (v := a2.toInt64) hx hb dX3_against_24 rfl ?_
          refine lv_ladd hx hb dX3_against_25 ?_
          refine lv_aload_n hx hb dX3_against_26 rfl (lv_at hl 0 rfl) ?_
          refine g_get (v := .ref (ad 4)) hx hb hts hown hK hW mO in_X3 rfl 4 (by decide) q1216 rfl rfl dX3_against_27 ?_
          refine lv_iload_n hx hb dX3_against_30 rfl (lv_at hl 1 rfl) ?_
          obtain ⟨v6, hv6, hm2⟩ := ob1_e hm2
          refine g_iald hx hb hK hW mA4 hv6 dX3_against_31 ?_
          refine lv_i2l (v := v6.toInt64) hx hb dX3_against_32 rfl ?_
          refine W.lcmp hx hb dX3_against_33 ?_
          refine lv_if_le (tgt := 41) hx hb dX3_against_34 (by decide) (fun c7 => ?_) (fun c7 => ?_)
          · rw [if_pos c7] at hm2
            refine lv_iconst (v := 0) hx hb dX3_against_41 (by decide) ?_
            obtain rfl := so1 hm2
            exact K2 ls (lv_sub hl [] rfl)
          · rw [if_neg c7] at hm2
            refine lv_iconst (v := 2) hx hb dX3_against_37 (by decide) ?_
            refine lv_goto (tgt := 42) hx hb dX3_against_38 (by decide) ?_
            obtain rfl := so1 hm2
            exact K2 ls (lv_sub hl [] rfl)
    · rw [if_neg c3] at hm2
      refine lv_iconst (v := 1) hx hb dX3_against_9 (by decide) ?_
      refine lv_goto (tgt := 42) hx hb dX3_against_10 (by decide) ?_
      obtain rfl := so1 hm2
      exact K2 ls (lv_sub hl [] rfl)
theorem m_against_ds : yX3_against.cls = RX3 ∧ yX3_against.cls ≠ "java/lang/invoke/MethodHandle" ∧ yX3_against.cls ≠ "java/lang/invoke/VarHandle" ∧ (parseMethodDescriptor yX3_against.desc).map (fun d => d.parameters.length) = some 3 := by decide +kernel
/-! cutTo -/
def m_cutTo (a0 : Int32) (a1 : Int32) : Option (Int32) :=
  ob1 (if a0 = 0 then ((some a1.toInt8.toInt32 : Option (Int32))) else (if a0 = 1 then ((some a1.toInt16.toInt32 : Option (Int32))) else ((some a1 : Option (Int32))))) fun (v1 : Int32) =>
  some v1
set_option maxRecDepth 100000 in
set_option maxHeartbeats 4000000 in
theorem m_cutTo_met (l : Launch) (D : dd_) (ad : Nat → Nat) (a0 : Int32) (a1 : Int32) (r : Int32) (hf : m_cutTo a0 a1 = some r) : Met l yX3_cutTo (ws_ yX3_cutTo cX3_cutTo 2 (some .int)) ({ frames := 1, cells := 0, slots := 0, locals := 16 }) (PcW D nS ad (fun _ => 0) (fun _ _ => 0) nR nG [.int a0, .int a1]) (QcR (some (.int r))) 0 0 (fun _ => False) := by
  refine Met.ofW (cc := cX3_cutTo) (maxL := 2) (ret := (some .int)) (by decide) rfl ?_
  intro p e s m args below meth c s₁ B hml hv
  obtain ⟨rfl, hK, hW⟩ := hv
  have hx := B.exec
  have hb := B.bytes
  have hr := B.returns
  have hts := atoms_spec (ws := (ws_ yX3_cutTo cX3_cutTo 2 (some .int))) B.pre
  have hts : ∀ w ∈ lw_all, w.before _ s = true := fun w h => hts w (List.mem_cons_of_mem _ h)
  have hown : s.vm.findClass RX3 = some m.cls := findClass_of_methodNamed B.named
  have hlocks := B.notSynchronized
  have hRf : 1 ≤ (headSpec (ws_ yX3_cutTo cX3_cutTo 2 (some .int)) ({ frames := 1, cells := 0, slots := 0, locals := 16 })).room.frames := Nat.le_refl _
  have hRl : 16 ≤ (headSpec (ws_ yX3_cutTo cX3_cutTo 2 (some .int)) ({ frames := 1, cells := 0, slots := 0, locals := 16 })).room.locals := Nat.le_refl _
  have hcs : 0 ≤ (headSpec (ws_ yX3_cutTo cX3_cutTo 2 (some .int)) ({ frames := 1, cells := 0, slots := 0, locals := 16 })).room.cells ∧ 0 ≤ (headSpec (ws_ yX3_cutTo cX3_cutTo 2 (some .int)) ({ frames := 1, cells := 0, slots := 0, locals := 16 })).room.slots := ⟨Nat.zero_le _, Nat.zero_le _⟩
  have hl := lv_entry ([.int a0, .int a1]) (n := 2) (Nat.le_of_ble_eq_true rfl)
  rw [lg_entry_eq]
  generalize (lg_sl ([.int a0, .int a1]) ++ List.replicate (2 - (lg_sl ([.int a0, .int a1])).length) Slot.unset).toArray = ls at hl ⊢
  have hl : lv_has ls 2 [(0, .int a0), (1, .int a1)] := hl
  have hf : (ob1 (if a0 = 0 then ((some a1.toInt8.toInt32 : Option (Int32))) else (if a0 = 1 then ((some a1.toInt16.toInt32 : Option (Int32))) else ((some a1 : Option (Int32))))) fun (v1 : Int32) =>
    some v1) = some r := hf
  refine lv_iload_n hx hb dX3_cutTo_0 rfl (lv_at hl 0 rfl) ?_
  obtain ⟨v1, hm1, hf⟩ := ob1_e hf
  refine w_cutL (nL := 2) (L := []) (pcj := 20) (st := [.int v1]) (fun ls hl => ?_) (fun K1 => ?_)
  · obtain rfl := so1 hf
    exact W.iret hx hb hr (fun t ht _ => ⟨rfl, ht⟩) (fun q hq => by cases hq) dX3_cutTo_20
  · refine lv_if_ne (tgt := 9) hx hb dX3_cutTo_1 (by decide) (fun c2 => ?_) (fun c2 => ?_)
    · rw [if_neg c2] at hm1
      refine lv_iload_n hx hb dX3_cutTo_9 rfl (lv_at hl 0 rfl) ?_
      refine lv_iconst (v := 1) hx hb dX3_cutTo_10 (by decide) ?_
      refine lv_icmp_ne (tgt := 19) hx hb dX3_cutTo_11 (by decide) (fun c3 => ?_) (fun c3 => ?_)
      · rw [if_neg c3] at hm1
        refine lv_iload_n hx hb dX3_cutTo_19 rfl (lv_at hl 1 rfl) ?_
        obtain rfl := so1 hm1
        exact K1 ls (lv_sub hl [] rfl)
      · rw [if_pos c3] at hm1
        refine lv_iload_n hx hb dX3_cutTo_14 rfl (lv_at hl 1 rfl) ?_
        refine lv_i2s (v := a1.toInt16.toInt32) hx hb dX3_cutTo_15 rfl ?_
        refine lv_goto (tgt := 20) hx hb dX3_cutTo_16 (by decide) ?_
        obtain rfl := so1 hm1
        exact K1 ls (lv_sub hl [] rfl)
    · rw [if_pos c2] at hm1
      refine lv_iload_n hx hb dX3_cutTo_4 rfl (lv_at hl 1 rfl) ?_
      refine lv_i2b (v := a1.toInt8.toInt32) hx hb dX3_cutTo_5 rfl ?_
      refine lv_goto (tgt := 20) hx hb dX3_cutTo_6 (by decide) ?_
      obtain rfl := so1 hm1
      exact K1 ls (lv_sub hl [] rfl)
theorem m_cutTo_ds : yX3_cutTo.cls = RX3 ∧ yX3_cutTo.cls ≠ "java/lang/invoke/MethodHandle" ∧ yX3_cutTo.cls ≠ "java/lang/invoke/VarHandle" ∧ (parseMethodDescriptor yX3_cutTo.desc).map (fun d => d.parameters.length) = some 2 := by decide +kernel
/-! set -/
def m_set (I : Nat → Int32) (A : Nat → Nat → Int32) (a0 : Int32) (a1 : Int32) (a2 : Int32) : Option (Int32 × (Nat → Int32) × (Nat → Nat → Int32)) :=
  ob1 (m_isRow a0) fun (v1 : Int32) =>
  if v1 = 0 then (some ((-1000001), I, A)) else (ob1 (m_against I A a0 a1 1) fun (v3 : Int32) =>
    if v3 ≤ 0 then (ob1 (ldO (A 3) 8 a0) fun (v5 : Int32) =>
      ob1 (m_cutTo v5 a2) fun (v6 : Int32) =>
      ob1 (stO (A 5) 320 ((40 * a0) + a1) v6) fun (f7 : Nat → Int32) =>
      ob1 (ldO ((va_up A 5 f7) 5) 320 ((40 * a0) + a1)) fun (v8 : Int32) =>
      ob3 (m_well I (va_up A 5 f7) v8) fun (v9 : Int32) (I10 : Nat → Int32) (A11 : Nat → Nat → Int32) =>
      some (v9, I10, A11)) else (ob3 (m_found I A v3) fun (v12 : Int32) (I13 : Nat → Int32) (A14 : Nat → Nat → Int32) =>
      some (v12, I13, A14)))
set_option maxRecDepth 100000 in
set_option maxHeartbeats 4000000 in
theorem m_set_met (l : Launch) (D : dd_) (ad : Nat → Nat) (hI : Inj mS ad) (I : Nat → Int32) (A : Nat → Nat → Int32) (a0 : Int32) (a1 : Int32) (a2 : Int32) (r : Int32) (I1 : (Nat → Int32)) (A1 : (Nat → Nat → Int32)) (hf : m_set I A a0 a1 a2 = some (r, I1, A1)) : Met l yX3_set (ws_ yX3_set cX3_set 5 (some .int)) ({ frames := 3, cells := 0, slots := 0, locals := 61 }) (PcW D mS ad I A nR nG [.ref (ad 99), .int a0, .int a1, .int a2]) (QcW D mS ad I1 A1 nR nG (some (.int r))) 0 0 (frS mS ad) := by
  refine Met.ofW (cc := cX3_set) (maxL := 5) (ret := (some .int)) (by decide) rfl ?_
  intro p e s m args below meth c s₁ B hml hv
  obtain ⟨rfl, hK, hW⟩ := hv
  have hx := B.exec
  have hb := B.bytes
  have hr := B.returns
  have hts := atoms_spec (ws := (ws_ yX3_set cX3_set 5 (some .int))) B.pre
  have hts : ∀ w ∈ lw_all, w.before _ s = true := fun w h => hts w (List.mem_cons_of_mem _ h)
  have hown : s.vm.findClass RX3 = some m.cls := findClass_of_methodNamed B.named
  have hlocks := B.notSynchronized
  have hRf : 3 ≤ (headSpec (ws_ yX3_set cX3_set 5 (some .int)) ({ frames := 3, cells := 0, slots := 0, locals := 61 })).room.frames := Nat.le_refl _
  have hRl : 61 ≤ (headSpec (ws_ yX3_set cX3_set 5 (some .int)) ({ frames := 3, cells := 0, slots := 0, locals := 61 })).room.locals := Nat.le_refl _
  have hcs : 0 ≤ (headSpec (ws_ yX3_set cX3_set 5 (some .int)) ({ frames := 3, cells := 0, slots := 0, locals := 61 })).room.cells ∧ 0 ≤ (headSpec (ws_ yX3_set cX3_set 5 (some .int)) ({ frames := 3, cells := 0, slots := 0, locals := 61 })).room.slots := ⟨Nat.zero_le _, Nat.zero_le _⟩
  have hA : ∀ i ∈ idxS mS, frS mS ad (ad i) := fun i hi => ⟨i, hi, rfl⟩
  have hS : va_S (frS mS ad) s.heap s.heap [] := va_S.rf
  have hl := lv_entry ([.ref (ad 99), .int a0, .int a1, .int a2]) (n := 5) (Nat.le_of_ble_eq_true rfl)
  rw [lg_entry_eq]
  generalize (lg_sl ([.ref (ad 99), .int a0, .int a1, .int a2]) ++ List.replicate (5 - (lg_sl ([.ref (ad 99), .int a0, .int a1, .int a2])).length) Slot.unset).toArray = ls at hl ⊢
  have hl : lv_has ls 5 [(0, .ref (ad 99)), (1, .int a0), (2, .int a1), (3, .int a2)] := hl
  have hf : (ob1 (m_isRow a0) fun (v1 : Int32) =>
    if v1 = 0 then (some ((-1000001), I, A)) else (ob1 (m_against I A a0 a1 1) fun (v3 : Int32) =>
      if v3 ≤ 0 then (ob1 (ldO (A 3) 8 a0) fun (v5 : Int32) =>
        ob1 (m_cutTo v5 a2) fun (v6 : Int32) =>
        ob1 (stO (A 5) 320 ((40 * a0) + a1) v6) fun (f7 : Nat → Int32) =>
        ob1 (ldO ((va_up A 5 f7) 5) 320 ((40 * a0) + a1)) fun (v8 : Int32) =>
        ob3 (m_well I (va_up A 5 f7) v8) fun (v9 : Int32) (I10 : Nat → Int32) (A11 : Nat → Nat → Int32) =>
        some (v9, I10, A11)) else (ob3 (m_found I A v3) fun (v12 : Int32) (I13 : Nat → Int32) (A14 : Nat → Nat → Int32) =>
        some (v12, I13, A14)))) = some (r, I1, A1) := hf
  refine lv_iload_n hx hb dX3_set_0 rfl (lv_at hl 1 rfl) ?_
  obtain ⟨v1, h1, hf⟩ := ob1_e hf
  refine g_sR (ov := some (.int v1)) (D := D) (Sc := nS) (adc := ad) (Ic := (fun _ => 0)) (Ac := (fun _ _ => 0)) (Rc := nR) (Gc := nG) (As := [.int a0]) (rest := []) ⟨hx, hb, hml, hown, hts⟩ (m_isRow_met l D ad a0 v1 h1) (va_cwS 1 hts (lw_S q1290 q1291 q82 q1292) rfl rfl rfl m_isRow_ds.2 ⟨Nat.le_trans (Nat.le_of_ble_eq_true rfl) hRf, Nat.le_trans (Nat.le_of_ble_eq_true rfl) hRl⟩) hK WH_nil hcs rfl hl.1 rfl (Nat.le_of_ble_eq_true rfl) dX3_set_1 ?_
  refine lv_if_ne (tgt := 10) hx hb dX3_set_4 (by decide) (fun c2 => ?_) (fun c2 => ?_)
  · rw [if_neg c2] at hf
    refine lv_aload_n hx hb dX3_set_10 rfl (lv_at hl 0 rfl) ?_
    refine lv_iload_n hx hb dX3_set_11 rfl (lv_at hl 1 rfl) ?_
    refine lv_iload_n hx hb dX3_set_12 rfl (lv_at hl 2 rfl) ?_
    refine lv_iconst (v := 1) hx hb dX3_set_13 (by decide) ?_
    obtain ⟨v3, h3, hf⟩ := ob1_e hf
    refine g_vR (ov := some (.int v3)) (D := D) (Sc := mS) (adc := ad) (Ic := I) (Ac := A) (Rc := nR) (Gc := nG) (As := [.int a0, .int a1, .int 1]) (rest := []) (b := ad 99) (C := RX3) ⟨hx, hb, hml, hown, hts⟩ (m_against_met l D ad I A a0 a1 1 v3 h3) (g_cwV 3 hts (lw_V q1312 q1314 qs35 q82 q1315) rfl rfl m_against_ds ⟨Nat.le_trans (Nat.le_of_ble_eq_true rfl) hRf, Nat.le_trans (Nat.le_of_ble_eq_true rfl) hRl⟩) (g_recv hK hW mO rfl) hK hW hcs rfl hl.1 rfl (Nat.le_of_ble_eq_true rfl) dX3_set_14 ?_
    refine lv_istore (lv' := [(4, .int v3), (0, .ref (ad 99)), (1, .int a0), (2, .int a1), (3, .int a2)]) hx hb dX3_set_17 hl (by decide) rfl (fun ls hl => ?_)
    refine lv_iload hx hb dX3_set_19 (lv_at hl 0 rfl) ?_
    refine lv_if_le (tgt := 31) hx hb dX3_set_21 (by decide) (fun c4 => ?_) (fun c4 => ?_)
    · rw [if_pos c4] at hf
      refine lv_aload_n hx hb dX3_set_31 rfl (lv_at hl 1 rfl) ?_
      refine g_get (v := .ref (ad 5)) hx hb hts hown hK hW mO in_X3 rfl 5 (by decide) q1217 rfl rfl dX3_set_32 ?_
      refine lv_bipush (v := 40) hx hb dX3_set_35 (by decide) ?_
      refine lv_iload_n hx hb dX3_set_37 rfl (lv_at hl 2 rfl) ?_
      refine lv_imul hx hb dX3_set_38 ?_
      refine lv_iload_n hx hb dX3_set_39 rfl (lv_at hl 3 rfl) ?_
      refine lv_iadd hx hb dX3_set_40 ?_
      refine lv_aload_n hx hb dX3_set_41 rfl (lv_at hl 1 rfl) ?_
      refine g_get (v := .ref (ad 3)) hx hb hts hown hK hW mO in_X3 rfl 3 (by decide) q1215 rfl rfl dX3_set_42 ?_
      refine lv_iload_n hx hb dX3_set_45 rfl (lv_at hl 2 rfl) ?_
      obtain ⟨v5, hv5, hf⟩ := ob1_e hf
      refine g_iald hx hb hK hW mA3 hv5 dX3_set_46 ?_
      refine lv_iload_n hx hb dX3_set_47 rfl (lv_at hl 4 rfl) ?_
      obtain ⟨v6, h6, hf⟩ := ob1_e hf
      refine g_sR (ov := some (.int v6)) (D := D) (Sc := nS) (adc := ad) (Ic := (fun _ => 0)) (Ac := (fun _ _ => 0)) (Rc := nR) (Gc := nG) (As := [.int v5, .int a2]) (rest := [.int ((40 * a0) + a1), .ref (ad 5)]) ⟨hx, hb, hml, hown, hts⟩ (m_cutTo_met l D ad v5 a2 v6 h6) (va_cwS 2 hts (lw_S q1316 q1317 q82 q1318) rfl rfl rfl m_cutTo_ds.2 ⟨Nat.le_trans (Nat.le_of_ble_eq_true rfl) hRf, Nat.le_trans (Nat.le_of_ble_eq_true rfl) hRl⟩) hK WH_nil hcs rfl hl.1 rfl (Nat.le_of_ble_eq_true rfl) dX3_set_48 ?_
      obtain ⟨f7, hf7, hf⟩ := ob1_e hf
      refine g_iast hx hb hK mwf hI hA hW hS mA5 hf7 dX3_set_51 (fun H locs hW hS => ?_)
      refine lv_aload_n hx hb dX3_set_52 rfl (lv_at hl 1 rfl) ?_
      refine lv_aload_n hx hb dX3_set_53 rfl (lv_at hl 1 rfl) ?_
      refine g_get (v := .ref (ad 5)) hx hb hts hown hK hW mO in_X3 rfl 5 (by decide) q1217 rfl rfl dX3_set_54 ?_
      refine lv_bipush (v := 40) hx hb dX3_set_57 (by decide) ?_
      refine lv_iload_n hx hb dX3_set_59 rfl (lv_at hl 2 rfl) ?_
      refine lv_imul hx hb dX3_set_60 ?_
      refine lv_iload_n hx hb dX3_set_61 rfl (lv_at hl 3 rfl) ?_
      refine lv_iadd hx hb dX3_set_62 ?_
      obtain ⟨v8, hv8, hf⟩ := ob1_e hf
      refine g_iald hx hb hK hW mA5 hv8 dX3_set_63 ?_
      obtain ⟨v9, I10, A11, h11, hf⟩ := ob3_e hf
      refine g_vW (ov := some (.int v9)) (D := D) (Sc := mS) (adc := ad) (Ic := I) (Ac := (va_up A 5 f7)) (Rc := nR) (Gc := nG) (As := [.int v8]) (rest := []) (Ic1 := I10) (Ac1 := A11) (Rc1 := nR) (Gc1 := nG) (b := ad 99) (C := RX3) ⟨hx, hb, hml, hown, hts⟩ (m_well_met l D ad hI I (va_up A 5 f7) v8 v9 I10 A11 h11) (g_cwV 1 hts (lw_V q1304 q1306 qs34 q82 q1307) rfl rfl m_well_ds ⟨Nat.le_trans (Nat.le_of_ble_eq_true rfl) hRf, Nat.le_trans (Nat.le_of_ble_eq_true rfl) hRl⟩) (g_recv hK hW mO rfl) hK hW hS hA hcs rfl hl.1 rfl (Nat.le_of_ble_eq_true rfl) dX3_set_64 (fun H locs hW _ hS => ?_)
      obtain ⟨rfl, rfl, rfl⟩ := so3 hf
      exact W.iret hx hb hr (fun t ht _ => ⟨rfl, by rw [ht]; exact hW, hS.F ht⟩) hS.2.2 dX3_set_67
    · rw [if_neg c4] at hf
      refine lv_aload_n hx hb dX3_set_24 rfl (lv_at hl 1 rfl) ?_
      refine lv_iload hx hb dX3_set_25 (lv_at hl 0 rfl) ?_
      obtain ⟨v12, I13, A14, h14, hf⟩ := ob3_e hf
      refine g_vW (ov := some (.int v12)) (D := D) (Sc := mS) (adc := ad) (Ic := I) (Ac := A) (Rc := nR) (Gc := nG) (As := [.int v3]) (rest := []) (Ic1 := I13) (Ac1 := A14) (Rc1 := nR) (Gc1 := nG) (b := ad 99) (C := RX3) ⟨hx, hb, hml, hown, hts⟩ (m_found_met l D ad hI I A v3 v12 I13 A14 h14) (g_cwV 1 hts (lw_V q1299 q1301 qs33 q82 q1302) rfl rfl m_found_ds ⟨Nat.le_trans (Nat.le_of_ble_eq_true rfl) hRf, Nat.le_trans (Nat.le_of_ble_eq_true rfl) hRl⟩) (g_recv hK hW mO rfl) hK hW hS hA hcs rfl hl.1 rfl (Nat.le_of_ble_eq_true rfl) dX3_set_27 (fun H locs hW _ hS => ?_)
      obtain ⟨rfl, rfl, rfl⟩ := so3 hf
      exact W.iret hx hb hr (fun t ht _ => ⟨rfl, by rw [ht]; exact hW, hS.F ht⟩) hS.2.2 dX3_set_30
  · rw [if_pos c2] at hf
    refine lv_ldc (v := (-1000001)) hx hb hown (hts _ q1298) dX3_set_7 ?_
    obtain ⟨rfl, rfl, rfl⟩ := so3 hf
    exact W.iret hx hb hr (fun t ht _ => ⟨rfl, by rw [ht]; exact hW, hS.F ht⟩) hS.2.2 dX3_set_9
theorem m_set_ds : yX3_set.cls = RX3 ∧ yX3_set.cls ≠ "java/lang/invoke/MethodHandle" ∧ yX3_set.cls ≠ "java/lang/invoke/VarHandle" ∧ (parseMethodDescriptor yX3_set.desc).map (fun d => d.parameters.length) = some 3 := by decide +kernel
/-! copy -/
def m_copy_L94 (u1 : Int32) (u2 : Int32) (u3 : Int32) (u4 : Int32) (u5 : Int32) : Nat → (Nat → Int32) → (Nat → Nat → Int32) → Int32 → Option ((Nat → Int32) × (Nat → Nat → Int32) × Int32)
  | 0, _, _, _ => none
  | n + 1, I, A, x6 =>
    if u5 ≤ x6 then (some (I, A, x6)) else (ob1 (ldO (A 5) 320 (((40 * u1) + u2) + x6)) fun (v2 : Int32) =>
      ob1 (stO (A 6) 40 x6 v2) fun (f3 : Nat → Int32) =>
      m_copy_L94 u1 u2 u3 u4 u5 n I (va_up A 6 f3) (x6 + 1))
set_option maxRecDepth 100000 in
set_option maxHeartbeats 4000000 in
theorem m_copy_L94_w {p : Program} {l : Launch} {e : Env} {R0 : Room} {s : State} {m : MethodId} {args : Array Value} {below : List Frame} {meth : Method} {c : Code} {cells slots : Nat} {Q : State → Prop} {D : dd_} {ad : Nat → Nat} (hx : p.tables.exec = Jvm.exec) (hb : c.code = cX3_copy) (hml : c.maxLocals = 7) (hown : s.vm.findClass RX3 = some m.cls) (hts : ∀ w ∈ lw_all, w.before args s = true) (hK : Kx D s) (hRf : 3 ≤ R0.frames) (hRl : 61 ≤ R0.locals) (hcs : cells ≤ R0.cells ∧ slots ≤ R0.slots) (hI : Inj mS ad) (u1 : Int32) (u2 : Int32) (u3 : Int32) (u4 : Int32) (u5 : Int32) (I9 : (Nat → Int32)) (A9 : (Nat → Nat → Int32)) (y6 : Int32) (KX : ∀ (H : Heap) (locs : List Loc) (ls : Array Slot), WH D mS ad I9 A9 nR nG H → va_S (frS mS ad) s.heap H locs → lv_has ls 7 [(0, .ref (ad 99)), (3, .int u3), (4, .int u4), (5, .int u5)] → W p l e R0 s m args below meth c H locs cells slots Q (F0 m 128 ls [])) : ∀ (n : Nat) (I : (Nat → Int32)) (A : (Nat → Nat → Int32)) (x6 : Int32) (H : Heap) (locs : List Loc) (ls : Array Slot), m_copy_L94 u1 u2 u3 u4 u5 n I A x6 = some (I9, A9, y6) → WH D mS ad I A nR nG H → va_S (frS mS ad) s.heap H locs → lv_has ls 7 [(0, .ref (ad 99)), (1, .int u1), (2, .int u2), (3, .int u3), (4, .int u4), (5, .int u5), (6, .int x6)] → W p l e R0 s m args below meth c H locs cells slots Q (F0 m 94 ls []) := by
  intro n
  have hA : ∀ i ∈ idxS mS, frS mS ad (ad i) := fun i hi => ⟨i, hi, rfl⟩
  induction n with
  | zero =>
    intro I A x6 H locs ls hf
    exact nomatch (show (none : Option ((Nat → Int32) × (Nat → Nat → Int32) × Int32)) = some (I9, A9, y6) from hf)
  | succ n ih =>
    intro I A x6 H locs ls hf hW hS hl
    have hf : (if u5 ≤ x6 then (some (I, A, x6)) else (ob1 (ldO (A 5) 320 (((40 * u1) + u2) + x6)) fun (v2 : Int32) =>
          ob1 (stO (A 6) 40 x6 v2) fun (f3 : Nat → Int32) =>
          m_copy_L94 u1 u2 u3 u4 u5 n I (va_up A 6 f3) (x6 + 1))) = some (I9, A9, y6) := hf
    refine lv_iload hx hb dX3_copy_94 (lv_at hl 6 rfl) ?_
    refine lv_iload hx hb dX3_copy_96 (lv_at hl 5 rfl) ?_
    refine lv_icmp_ge (tgt := 128) hx hb dX3_copy_98 (by decide) (fun c1 => ?_) (fun c1 => ?_)
    · rw [if_pos c1] at hf
      obtain ⟨rfl, rfl, rfl⟩ := so3 hf
      exact KX _ _ ls hW hS (lv_sub hl [0, 3, 4, 5] rfl)
    · rw [if_neg c1] at hf
      refine lv_aload_n hx hb dX3_copy_101 rfl (lv_at hl 0 rfl) ?_
      refine g_get (v := .ref (ad 6)) hx hb hts hown hK hW mO in_X3 rfl 6 (by decide) q1218 rfl rfl dX3_copy_102 ?_
      refine lv_iload hx hb dX3_copy_105 (lv_at hl 6 rfl) ?_
      refine lv_aload_n hx hb dX3_copy_107 rfl (lv_at hl 0 rfl) ?_
      refine g_get (v := .ref (ad 5)) hx hb hts hown hK hW mO in_X3 rfl 5 (by decide) q1217 rfl rfl dX3_copy_108 ?_
      refine lv_bipush (v := 40) hx hb dX3_copy_111 (by decide) ?_
      refine lv_iload_n hx hb dX3_copy_113 rfl (lv_at hl 1 rfl) ?_
      refine lv_imul hx hb dX3_copy_114 ?_
      refine lv_iload_n hx hb dX3_copy_115 rfl (lv_at hl 2 rfl) ?_
      refine lv_iadd hx hb dX3_copy_116 ?_
      refine lv_iload hx hb dX3_copy_117 (lv_at hl 6 rfl) ?_
      refine lv_iadd hx hb dX3_copy_119 ?_
      obtain ⟨v2, hv2, hf⟩ := ob1_e hf
      refine g_iald hx hb hK hW mA5 hv2 dX3_copy_120 ?_
      obtain ⟨f3, hf3, hf⟩ := ob1_e hf
      refine g_iast hx hb hK mwf hI hA hW hS mA6 hf3 dX3_copy_121 (fun H locs hW hS => ?_)
      refine lv_iinc (v := x6 + 1) (lv' := [(6, .int (x6 + 1)), (0, .ref (ad 99)), (1, .int u1), (2, .int u2), (3, .int u3), (4, .int u4), (5, .int u5)]) hx hb dX3_copy_122 hl (k := 6) rfl (by rfl) (by decide) rfl (fun ls hl => ?_)
      refine lv_goto (tgt := 94) hx hb dX3_copy_125 (by decide) ?_
      exact ih I (va_up A 6 f3) (x6 + 1) _ _ ls hf hW hS (lv_sub hl [1, 2, 3, 4, 5, 6, 0] rfl)
def m_copy_L131 (u3 : Int32) (u4 : Int32) (u5 : Int32) : Nat → (Nat → Int32) → (Nat → Nat → Int32) → Int32 → Option ((Nat → Int32) × (Nat → Nat → Int32) × Int32)
  | 0, _, _, _ => none
  | n + 1, I, A, x6 =>
    if u5 ≤ x6 then (some (I, A, x6)) else (ob1 (ldO (A 6) 40 x6) fun (v2 : Int32) =>
      ob1 (stO (A 5) 320 (((40 * u3) + u4) + x6) v2) fun (f3 : Nat → Int32) =>
      m_copy_L131 u3 u4 u5 n I (va_up A 5 f3) (x6 + 1))
set_option maxRecDepth 100000 in
set_option maxHeartbeats 4000000 in
theorem m_copy_L131_w {p : Program} {l : Launch} {e : Env} {R0 : Room} {s : State} {m : MethodId} {args : Array Value} {below : List Frame} {meth : Method} {c : Code} {cells slots : Nat} {Q : State → Prop} {D : dd_} {ad : Nat → Nat} (hx : p.tables.exec = Jvm.exec) (hb : c.code = cX3_copy) (hml : c.maxLocals = 7) (hown : s.vm.findClass RX3 = some m.cls) (hts : ∀ w ∈ lw_all, w.before args s = true) (hK : Kx D s) (hRf : 3 ≤ R0.frames) (hRl : 61 ≤ R0.locals) (hcs : cells ≤ R0.cells ∧ slots ≤ R0.slots) (hI : Inj mS ad) (u3 : Int32) (u4 : Int32) (u5 : Int32) (I9 : (Nat → Int32)) (A9 : (Nat → Nat → Int32)) (y6 : Int32) (KX : ∀ (H : Heap) (locs : List Loc) (ls : Array Slot), WH D mS ad I9 A9 nR nG H → va_S (frS mS ad) s.heap H locs → lv_has ls 7 [(0, .ref (ad 99)), (5, .int u5)] → W p l e R0 s m args below meth c H locs cells slots Q (F0 m 166 ls [])) : ∀ (n : Nat) (I : (Nat → Int32)) (A : (Nat → Nat → Int32)) (x6 : Int32) (H : Heap) (locs : List Loc) (ls : Array Slot), m_copy_L131 u3 u4 u5 n I A x6 = some (I9, A9, y6) → WH D mS ad I A nR nG H → va_S (frS mS ad) s.heap H locs → lv_has ls 7 [(0, .ref (ad 99)), (3, .int u3), (4, .int u4), (5, .int u5), (6, .int x6)] → W p l e R0 s m args below meth c H locs cells slots Q (F0 m 131 ls []) := by
  intro n
  have hA : ∀ i ∈ idxS mS, frS mS ad (ad i) := fun i hi => ⟨i, hi, rfl⟩
  induction n with
  | zero =>
    intro I A x6 H locs ls hf
    exact nomatch (show (none : Option ((Nat → Int32) × (Nat → Nat → Int32) × Int32)) = some (I9, A9, y6) from hf)
  | succ n ih =>
    intro I A x6 H locs ls hf hW hS hl
    have hf : (if u5 ≤ x6 then (some (I, A, x6)) else (ob1 (ldO (A 6) 40 x6) fun (v2 : Int32) =>
          ob1 (stO (A 5) 320 (((40 * u3) + u4) + x6) v2) fun (f3 : Nat → Int32) =>
          m_copy_L131 u3 u4 u5 n I (va_up A 5 f3) (x6 + 1))) = some (I9, A9, y6) := hf
    refine lv_iload hx hb dX3_copy_131 (lv_at hl 4 rfl) ?_
    refine lv_iload hx hb dX3_copy_133 (lv_at hl 3 rfl) ?_
    refine lv_icmp_ge (tgt := 166) hx hb dX3_copy_135 (by decide) (fun c1 => ?_) (fun c1 => ?_)
    · rw [if_pos c1] at hf
      obtain ⟨rfl, rfl, rfl⟩ := so3 hf
      exact KX _ _ ls hW hS (lv_sub hl [0, 3] rfl)
    · rw [if_neg c1] at hf
      refine lv_aload_n hx hb dX3_copy_138 rfl (lv_at hl 0 rfl) ?_
      refine g_get (v := .ref (ad 5)) hx hb hts hown hK hW mO in_X3 rfl 5 (by decide) q1217 rfl rfl dX3_copy_139 ?_
      refine lv_bipush (v := 40) hx hb dX3_copy_142 (by decide) ?_
      refine lv_iload_n hx hb dX3_copy_144 rfl (lv_at hl 1 rfl) ?_
      refine lv_imul hx hb dX3_copy_145 ?_
      refine lv_iload hx hb dX3_copy_146 (lv_at hl 2 rfl) ?_
      refine lv_iadd hx hb dX3_copy_148 ?_
      refine lv_iload hx hb dX3_copy_149 (lv_at hl 4 rfl) ?_
      refine lv_iadd hx hb dX3_copy_151 ?_
      refine lv_aload_n hx hb dX3_copy_152 rfl (lv_at hl 0 rfl) ?_
      refine g_get (v := .ref (ad 6)) hx hb hts hown hK hW mO in_X3 rfl 6 (by decide) q1218 rfl rfl dX3_copy_153 ?_
      refine lv_iload hx hb dX3_copy_156 (lv_at hl 4 rfl) ?_
      obtain ⟨v2, hv2, hf⟩ := ob1_e hf
      refine g_iald hx hb hK hW mA6 hv2 dX3_copy_158 ?_
      obtain ⟨f3, hf3, hf⟩ := ob1_e hf
      refine g_iast hx hb hK mwf hI hA hW hS mA5 hf3 dX3_copy_159 (fun H locs hW hS => ?_)
      refine lv_iinc (v := x6 + 1) (lv' := [(6, .int (x6 + 1)), (0, .ref (ad 99)), (3, .int u3), (4, .int u4), (5, .int u5)]) hx hb dX3_copy_160 hl (k := 4) rfl (by rfl) (by decide) rfl (fun ls hl => ?_)
      refine lv_goto (tgt := 131) hx hb dX3_copy_163 (by decide) ?_
      exact ih I (va_up A 5 f3) (x6 + 1) _ _ ls hf hW hS (lv_sub hl [1, 2, 3, 4, 0] rfl)
def m_copy (I : Nat → Int32) (A : Nat → Nat → Int32) (a0 : Int32) (a1 : Int32) (a2 : Int32) (a3 : Int32) (a4 : Int32) : Option (Int32 × (Nat → Int32) × (Nat → Nat → Int32)) :=
  ob1 (m_isRow a0) fun (v1 : Int32) =>
  if v1 = 0 then (some ((-1000001), I, A)) else (ob1 (m_isRow a2) fun (v3 : Int32) =>
    if v3 = 0 then (some ((-1000001), I, A)) else (ob1 (ldO (A 3) 8 a0) fun (v5 : Int32) =>
      if v5 < 0 then (ob3 (m_found I A 1) fun (v7 : Int32) (I8 : Nat → Int32) (A9 : Nat → Nat → Int32) =>
        some (v7, I8, A9)) else (ob1 (ldO (A 3) 8 a2) fun (v10 : Int32) =>
        if 0 ≤ v10 then (ob1 (ldO (A 3) 8 a0) fun (v12 : Int32) =>
          ob1 (ldO (A 3) 8 a2) fun (v13 : Int32) =>
          if v12 = v13 then (ob1 (m_against I A a0 a1 a4) fun (v15 : Int32) =>
            if 0 < v15 then (ob3 (m_found I A 2) fun (v17 : Int32) (I18 : Nat → Int32) (A19 : Nat → Nat → Int32) =>
              some (v17, I18, A19)) else (ob1 (m_against I A a2 a3 a4) fun (v20 : Int32) =>
              if v20 ≤ 0 then (ob3 (m_copy_L94 a0 a1 a2 a3 a4 NF I A 0) fun (I22 : Nat → Int32) (A23 : Nat → Nat → Int32) (v24 : Int32) =>
                ob3 (m_copy_L131 a2 a3 a4 NF I22 A23 0) fun (I25 : Nat → Int32) (A26 : Nat → Nat → Int32) (v27 : Int32) =>
                ob3 (m_well I25 A26 a4) fun (v28 : Int32) (I29 : Nat → Int32) (A30 : Nat → Nat → Int32) =>
                some (v28, I29, A30)) else (ob3 (m_found I A 2) fun (v31 : Int32) (I32 : Nat → Int32) (A33 : Nat → Nat → Int32) =>
                some (v31, I32, A33)))) else (ob3 (m_found I A 5) fun (v34 : Int32) (I35 : Nat → Int32) (A36 : Nat → Nat → Int32) =>
            some (v34, I35, A36))) else (ob3 (m_found I A 1) fun (v37 : Int32) (I38 : Nat → Int32) (A39 : Nat → Nat → Int32) =>
          some (v37, I38, A39)))))
set_option maxRecDepth 100000 in
set_option maxHeartbeats 4000000 in
theorem m_copy_met (l : Launch) (D : dd_) (ad : Nat → Nat) (hI : Inj mS ad) (I : Nat → Int32) (A : Nat → Nat → Int32) (a0 : Int32) (a1 : Int32) (a2 : Int32) (a3 : Int32) (a4 : Int32) (r : Int32) (I1 : (Nat → Int32)) (A1 : (Nat → Nat → Int32)) (hf : m_copy I A a0 a1 a2 a3 a4 = some (r, I1, A1)) : Met l yX3_copy (ws_ yX3_copy cX3_copy 7 (some .int)) ({ frames := 3, cells := 0, slots := 0, locals := 61 }) (PcW D mS ad I A nR nG [.ref (ad 99), .int a0, .int a1, .int a2, .int a3, .int a4]) (QcW D mS ad I1 A1 nR nG (some (.int r))) 0 0 (frS mS ad) := by
  refine Met.ofW (cc := cX3_copy) (maxL := 7) (ret := (some .int)) (by decide) rfl ?_
  intro p e s m args below meth c s₁ B hml hv
  obtain ⟨rfl, hK, hW⟩ := hv
  have hx := B.exec
  have hb := B.bytes
  have hr := B.returns
  have hts := atoms_spec (ws := (ws_ yX3_copy cX3_copy 7 (some .int))) B.pre
  have hts : ∀ w ∈ lw_all, w.before _ s = true := fun w h => hts w (List.mem_cons_of_mem _ h)
  have hown : s.vm.findClass RX3 = some m.cls := findClass_of_methodNamed B.named
  have hlocks := B.notSynchronized
  have hRf : 3 ≤ (headSpec (ws_ yX3_copy cX3_copy 7 (some .int)) ({ frames := 3, cells := 0, slots := 0, locals := 61 })).room.frames := Nat.le_refl _
  have hRl : 61 ≤ (headSpec (ws_ yX3_copy cX3_copy 7 (some .int)) ({ frames := 3, cells := 0, slots := 0, locals := 61 })).room.locals := Nat.le_refl _
  have hcs : 0 ≤ (headSpec (ws_ yX3_copy cX3_copy 7 (some .int)) ({ frames := 3, cells := 0, slots := 0, locals := 61 })).room.cells ∧ 0 ≤ (headSpec (ws_ yX3_copy cX3_copy 7 (some .int)) ({ frames := 3, cells := 0, slots := 0, locals := 61 })).room.slots := ⟨Nat.zero_le _, Nat.zero_le _⟩
  have hA : ∀ i ∈ idxS mS, frS mS ad (ad i) := fun i hi => ⟨i, hi, rfl⟩
  have hS : va_S (frS mS ad) s.heap s.heap [] := va_S.rf
  have hl := lv_entry ([.ref (ad 99), .int a0, .int a1, .int a2, .int a3, .int a4]) (n := 7) (Nat.le_of_ble_eq_true rfl)
  rw [lg_entry_eq]
  generalize (lg_sl ([.ref (ad 99), .int a0, .int a1, .int a2, .int a3, .int a4]) ++ List.replicate (7 - (lg_sl ([.ref (ad 99), .int a0, .int a1, .int a2, .int a3, .int a4])).length) Slot.unset).toArray = ls at hl ⊢
  have hl : lv_has ls 7 [(0, .ref (ad 99)), (1, .int a0), (2, .int a1), (3, .int a2), (4, .int a3), (5, .int a4)] := hl
  have hf : (ob1 (m_isRow a0) fun (v1 : Int32) =>
    if v1 = 0 then (some ((-1000001), I, A)) else (ob1 (m_isRow a2) fun (v3 : Int32) =>
      if v3 = 0 then (some ((-1000001), I, A)) else (ob1 (ldO (A 3) 8 a0) fun (v5 : Int32) =>
        if v5 < 0 then (ob3 (m_found I A 1) fun (v7 : Int32) (I8 : Nat → Int32) (A9 : Nat → Nat → Int32) =>
          some (v7, I8, A9)) else (ob1 (ldO (A 3) 8 a2) fun (v10 : Int32) =>
          if 0 ≤ v10 then (ob1 (ldO (A 3) 8 a0) fun (v12 : Int32) =>
            ob1 (ldO (A 3) 8 a2) fun (v13 : Int32) =>
            if v12 = v13 then (ob1 (m_against I A a0 a1 a4) fun (v15 : Int32) =>
              if 0 < v15 then (ob3 (m_found I A 2) fun (v17 : Int32) (I18 : Nat → Int32) (A19 : Nat → Nat → Int32) =>
                some (v17, I18, A19)) else (ob1 (m_against I A a2 a3 a4) fun (v20 : Int32) =>
                if v20 ≤ 0 then (ob3 (m_copy_L94 a0 a1 a2 a3 a4 NF I A 0) fun (I22 : Nat → Int32) (A23 : Nat → Nat → Int32) (v24 : Int32) =>
                  ob3 (m_copy_L131 a2 a3 a4 NF I22 A23 0) fun (I25 : Nat → Int32) (A26 : Nat → Nat → Int32) (v27 : Int32) =>
                  ob3 (m_well I25 A26 a4) fun (v28 : Int32) (I29 : Nat → Int32) (A30 : Nat → Nat → Int32) =>
                  some (v28, I29, A30)) else (ob3 (m_found I A 2) fun (v31 : Int32) (I32 : Nat → Int32) (A33 : Nat → Nat → Int32) =>
                  some (v31, I32, A33)))) else (ob3 (m_found I A 5) fun (v34 : Int32) (I35 : Nat → Int32) (A36 : Nat → Nat → Int32) =>
              some (v34, I35, A36))) else (ob3 (m_found I A 1) fun (v37 : Int32) (I38 : Nat → Int32) (A39 : Nat → Nat → Int32) =>
            some (v37, I38, A39)))))) = some (r, I1, A1) := hf
  refine lv_iload_n hx hb dX3_copy_0 rfl (lv_at hl 1 rfl) ?_
  obtain ⟨v1, h1, hf⟩ := ob1_e hf
  refine g_sR (ov := some (.int v1)) (D := D) (Sc := nS) (adc := ad) (Ic := (fun _ => 0)) (Ac := (fun _ _ => 0)) (Rc := nR) (Gc := nG) (As := [.int a0]) (rest := []) ⟨hx, hb, hml, hown, hts⟩ (m_isRow_met l D ad a0 v1 h1) (va_cwS 1 hts (lw_S q1290 q1291 q82 q1292) rfl rfl rfl m_isRow_ds.2 ⟨Nat.le_trans (Nat.le_of_ble_eq_true rfl) hRf, Nat.le_trans (Nat.le_of_ble_eq_true rfl) hRl⟩) hK WH_nil hcs rfl hl.1 rfl (Nat.le_of_ble_eq_true rfl) dX3_copy_1 ?_
  refine lv_if_eq (tgt := 14) hx hb dX3_copy_4 (by decide) (fun c2 => ?_) (fun c2 => ?_)
  · rw [if_pos c2] at hf
    refine lv_ldc (v := (-1000001)) hx hb hown (hts _ q1298) dX3_copy_14 ?_
    obtain ⟨rfl, rfl, rfl⟩ := so3 hf
    exact W.iret hx hb hr (fun t ht _ => ⟨rfl, by rw [ht]; exact hW, hS.F ht⟩) hS.2.2 dX3_copy_16
  · rw [if_neg c2] at hf
    refine lv_iload_n hx hb dX3_copy_7 rfl (lv_at hl 3 rfl) ?_
    obtain ⟨v3, h3, hf⟩ := ob1_e hf
    refine g_sR (ov := some (.int v3)) (D := D) (Sc := nS) (adc := ad) (Ic := (fun _ => 0)) (Ac := (fun _ _ => 0)) (Rc := nR) (Gc := nG) (As := [.int a2]) (rest := []) ⟨hx, hb, hml, hown, hts⟩ (m_isRow_met l D ad a2 v3 h3) (va_cwS 1 hts (lw_S q1290 q1291 q82 q1292) rfl rfl rfl m_isRow_ds.2 ⟨Nat.le_trans (Nat.le_of_ble_eq_true rfl) hRf, Nat.le_trans (Nat.le_of_ble_eq_true rfl) hRl⟩) hK WH_nil hcs rfl hl.1 rfl (Nat.le_of_ble_eq_true rfl) dX3_copy_8 ?_
    refine lv_if_ne (tgt := 17) hx hb dX3_copy_11 (by decide) (fun c4 => ?_) (fun c4 => ?_)
    · rw [if_neg c4] at hf
      refine lv_aload_n hx hb dX3_copy_17 rfl (lv_at hl 0 rfl) ?_
      refine g_get (v := .ref (ad 3)) hx hb hts hown hK hW mO in_X3 rfl 3 (by decide) q1215 rfl rfl dX3_copy_18 ?_
      refine lv_iload_n hx hb dX3_copy_21 rfl (lv_at hl 1 rfl) ?_
      obtain ⟨v5, hv5, hf⟩ := ob1_e hf
      refine g_iald hx hb hK hW mA3 hv5 dX3_copy_22 ?_
      refine lv_if_lt (tgt := 35) hx hb dX3_copy_23 (by decide) (fun c6 => ?_) (fun c6 => ?_)
      · rw [if_pos c6] at hf
        refine lv_aload_n hx hb dX3_copy_35 rfl (lv_at hl 0 rfl) ?_
        refine lv_iconst (v := 1) hx hb dX3_copy_36 (by decide) ?_
        obtain ⟨v7, I8, A9, h9, hf⟩ := ob3_e hf
        refine g_vW (ov := some (.int v7)) (D := D) (Sc := mS) (adc := ad) (Ic := I) (Ac := A) (Rc := nR) (Gc := nG) (As := [.int 1]) (rest := []) (Ic1 := I8) (Ac1 := A9) (Rc1 := nR) (Gc1 := nG) (b := ad 99) (C := RX3) ⟨hx, hb, hml, hown, hts⟩ (m_found_met l D ad hI I A 1 v7 I8 A9 h9) (g_cwV 1 hts (lw_V q1299 q1301 qs33 q82 q1302) rfl rfl m_found_ds ⟨Nat.le_trans (Nat.le_of_ble_eq_true rfl) hRf, Nat.le_trans (Nat.le_of_ble_eq_true rfl) hRl⟩) (g_recv hK hW mO rfl) hK hW hS hA hcs rfl hl.1 rfl (Nat.le_of_ble_eq_true rfl) dX3_copy_37 (fun H locs hW _ hS => ?_)
        obtain ⟨rfl, rfl, rfl⟩ := so3 hf
        exact W.iret hx hb hr (fun t ht _ => ⟨rfl, by rw [ht]; exact hW, hS.F ht⟩) hS.2.2 dX3_copy_40
      · rw [if_neg c6] at hf
        refine lv_aload_n hx hb dX3_copy_26 rfl (lv_at hl 0 rfl) ?_
        refine g_get (v := .ref (ad 3)) hx hb hts hown hK hW mO in_X3 rfl 3 (by decide) q1215 rfl rfl dX3_copy_27 ?_
        refine lv_iload_n hx hb dX3_copy_30 rfl (lv_at hl 3 rfl) ?_
        obtain ⟨v10, hv10, hf⟩ := ob1_e hf
        refine g_iald hx hb hK hW mA3 hv10 dX3_copy_31 ?_
        refine lv_if_ge (tgt := 41) hx hb dX3_copy_32 (by decide) (fun c11 => ?_) (fun c11 => ?_)
        · rw [if_pos c11] at hf
          refine lv_aload_n hx hb dX3_copy_41 rfl (lv_at hl 0 rfl) ?_
          refine g_get (v := .ref (ad 3)) hx hb hts hown hK hW mO in_X3 rfl 3 (by decide) q1215 rfl rfl dX3_copy_42 ?_
          refine lv_iload_n hx hb dX3_copy_45 rfl (lv_at hl 1 rfl) ?_
          obtain ⟨v12, hv12, hf⟩ := ob1_e hf
          refine g_iald hx hb hK hW mA3 hv12 dX3_copy_46 ?_
          refine lv_aload_n hx hb dX3_copy_47 rfl (lv_at hl 0 rfl) ?_
          refine g_get (v := .ref (ad 3)) hx hb hts hown hK hW mO in_X3 rfl 3 (by decide) q1215 rfl rfl dX3_copy_48 ?_
          refine lv_iload_n hx hb dX3_copy_51 rfl (lv_at hl 3 rfl) ?_
          obtain ⟨v13, hv13, hf⟩ := ob1_e hf
          refine g_iald hx hb hK hW mA3 hv13 dX3_copy_52 ?_
          refine lv_icmp_eq (tgt := 62) hx hb dX3_copy_53 (by decide) (fun c14 => ?_) (fun c14 => ?_)
          · rw [if_pos c14] at hf
            refine lv_aload_n hx hb dX3_copy_62 rfl (lv_at hl 0 rfl) ?_
            refine lv_iload_n hx hb dX3_copy_63 rfl (lv_at hl 1 rfl) ?_
            refine lv_iload_n hx hb dX3_copy_64 rfl (lv_at hl 2 rfl) ?_
            refine lv_iload hx hb dX3_copy_65 (lv_at hl 5 rfl) ?_
            obtain ⟨v15, h15, hf⟩ := ob1_e hf
            refine g_vR (ov := some (.int v15)) (D := D) (Sc := mS) (adc := ad) (Ic := I) (Ac := A) (Rc := nR) (Gc := nG) (As := [.int a0, .int a1, .int a4]) (rest := []) (b := ad 99) (C := RX3) ⟨hx, hb, hml, hown, hts⟩ (m_against_met l D ad I A a0 a1 a4 v15 h15) (g_cwV 3 hts (lw_V q1312 q1314 qs35 q82 q1315) rfl rfl m_against_ds ⟨Nat.le_trans (Nat.le_of_ble_eq_true rfl) hRf, Nat.le_trans (Nat.le_of_ble_eq_true rfl) hRl⟩) (g_recv hK hW mO rfl) hK hW hcs rfl hl.1 rfl (Nat.le_of_ble_eq_true rfl) dX3_copy_67 ?_
            refine lv_if_gt (tgt := 85) hx hb dX3_copy_70 (by decide) (fun c16 => ?_) (fun c16 => ?_)
            · rw [if_pos c16] at hf
              refine lv_aload_n hx hb dX3_copy_85 rfl (lv_at hl 0 rfl) ?_
              refine lv_iconst (v := 2) hx hb dX3_copy_86 (by decide) ?_
              obtain ⟨v17, I18, A19, h19, hf⟩ := ob3_e hf
              refine g_vW (ov := some (.int v17)) (D := D) (Sc := mS) (adc := ad) (Ic := I) (Ac := A) (Rc := nR) (Gc := nG) (As := [.int 2]) (rest := []) (Ic1 := I18) (Ac1 := A19) (Rc1 := nR) (Gc1 := nG) (b := ad 99) (C := RX3) ⟨hx, hb, hml, hown, hts⟩ (m_found_met l D ad hI I A 2 v17 I18 A19 h19) (g_cwV 1 hts (lw_V q1299 q1301 qs33 q82 q1302) rfl rfl m_found_ds ⟨Nat.le_trans (Nat.le_of_ble_eq_true rfl) hRf, Nat.le_trans (Nat.le_of_ble_eq_true rfl) hRl⟩) (g_recv hK hW mO rfl) hK hW hS hA hcs rfl hl.1 rfl (Nat.le_of_ble_eq_true rfl) dX3_copy_87 (fun H locs hW _ hS => ?_)
              obtain ⟨rfl, rfl, rfl⟩ := so3 hf
              exact W.iret hx hb hr (fun t ht _ => ⟨rfl, by rw [ht]; exact hW, hS.F ht⟩) hS.2.2 dX3_copy_90
            · rw [if_neg c16] at hf
              refine lv_aload_n hx hb dX3_copy_73 rfl (lv_at hl 0 rfl) ?_
              refine lv_iload_n hx hb dX3_copy_74 rfl (lv_at hl 3 rfl) ?_
              refine lv_iload hx hb dX3_copy_75 (lv_at hl 4 rfl) ?_
              refine lv_iload hx hb dX3_copy_77 (lv_at hl 5 rfl) ?_
              obtain ⟨v20, h20, hf⟩ := ob1_e hf
              refine g_vR (ov := some (.int v20)) (D := D) (Sc := mS) (adc := ad) (Ic := I) (Ac := A) (Rc := nR) (Gc := nG) (As := [.int a2, .int a3, .int a4]) (rest := []) (b := ad 99) (C := RX3) ⟨hx, hb, hml, hown, hts⟩ (m_against_met l D ad I A a2 a3 a4 v20 h20) (g_cwV 3 hts (lw_V q1312 q1314 qs35 q82 q1315) rfl rfl m_against_ds ⟨Nat.le_trans (Nat.le_of_ble_eq_true rfl) hRf, Nat.le_trans (Nat.le_of_ble_eq_true rfl) hRl⟩) (g_recv hK hW mO rfl) hK hW hcs rfl hl.1 rfl (Nat.le_of_ble_eq_true rfl) dX3_copy_79 ?_
              refine lv_if_le (tgt := 91) hx hb dX3_copy_82 (by decide) (fun c21 => ?_) (fun c21 => ?_)
              · rw [if_pos c21] at hf
                refine lv_iconst (v := 0) hx hb dX3_copy_91 (by decide) ?_
                refine lv_istore (lv' := [(6, .int 0), (0, .ref (ad 99)), (1, .int a0), (2, .int a1), (3, .int a2), (4, .int a3), (5, .int a4)]) hx hb dX3_copy_92 hl (by decide) rfl (fun ls hl => ?_)
                obtain ⟨I22, A23, v24, hq24, hf⟩ := ob3_e hf
                refine m_copy_L94_w hx hb hml hown hts hK hRf hRl hcs hI a0 a1 a2 a3 a4 I22 A23 v24 (fun H locs ls hW hS hl => ?_) NF I A 0 _ _ ls hq24 hW hS (lv_sub hl [1, 2, 3, 4, 5, 6, 0] rfl)
                refine lv_iconst (v := 0) hx hb dX3_copy_128 (by decide) ?_
                refine lv_istore (lv' := [(6, .int 0), (0, .ref (ad 99)), (3, .int a2), (4, .int a3), (5, .int a4)]) hx hb dX3_copy_129 hl (by decide) rfl (fun ls hl => ?_)
                obtain ⟨I25, A26, v27, hq27, hf⟩ := ob3_e hf
                refine m_copy_L131_w hx hb hml hown hts hK hRf hRl hcs hI a2 a3 a4 I25 A26 v27 (fun H locs ls hW hS hl => ?_) NF I22 A23 0 _ _ ls hq27 hW hS (lv_sub hl [1, 2, 3, 4, 0] rfl)
                refine lv_aload_n hx hb dX3_copy_166 rfl (lv_at hl 0 rfl) ?_
                refine lv_iload hx hb dX3_copy_167 (lv_at hl 1 rfl) ?_
                obtain ⟨v28, I29, A30, h30, hf⟩ := ob3_e hf
                refine g_vW (ov := some (.int v28)) (D := D) (Sc := mS) (adc := ad) (Ic := I25) (Ac := A26) (Rc := nR) (Gc := nG) (As := [.int a4]) (rest := []) (Ic1 := I29) (Ac1 := A30) (Rc1 := nR) (Gc1 := nG) (b := ad 99) (C := RX3) ⟨hx, hb, hml, hown, hts⟩ (m_well_met l D ad hI I25 A26 a4 v28 I29 A30 h30) (g_cwV 1 hts (lw_V q1304 q1306 qs34 q82 q1307) rfl rfl m_well_ds ⟨Nat.le_trans (Nat.le_of_ble_eq_true rfl) hRf, Nat.le_trans (Nat.le_of_ble_eq_true rfl) hRl⟩) (g_recv hK hW mO rfl) hK hW hS hA hcs rfl hl.1 rfl (Nat.le_of_ble_eq_true rfl) dX3_copy_169 (fun H locs hW _ hS => ?_)
                obtain ⟨rfl, rfl, rfl⟩ := so3 hf
                exact W.iret hx hb hr (fun t ht _ => ⟨rfl, by rw [ht]; exact hW, hS.F ht⟩) hS.2.2 dX3_copy_172
              · rw [if_neg c21] at hf
                refine lv_aload_n hx hb dX3_copy_85 rfl (lv_at hl 0 rfl) ?_
                refine lv_iconst (v := 2) hx hb dX3_copy_86 (by decide) ?_
                obtain ⟨v31, I32, A33, h33, hf⟩ := ob3_e hf
                refine g_vW (ov := some (.int v31)) (D := D) (Sc := mS) (adc := ad) (Ic := I) (Ac := A) (Rc := nR) (Gc := nG) (As := [.int 2]) (rest := []) (Ic1 := I32) (Ac1 := A33) (Rc1 := nR) (Gc1 := nG) (b := ad 99) (C := RX3) ⟨hx, hb, hml, hown, hts⟩ (m_found_met l D ad hI I A 2 v31 I32 A33 h33) (g_cwV 1 hts (lw_V q1299 q1301 qs33 q82 q1302) rfl rfl m_found_ds ⟨Nat.le_trans (Nat.le_of_ble_eq_true rfl) hRf, Nat.le_trans (Nat.le_of_ble_eq_true rfl) hRl⟩) (g_recv hK hW mO rfl) hK hW hS hA hcs rfl hl.1 rfl (Nat.le_of_ble_eq_true rfl) dX3_copy_87 (fun H locs hW _ hS => ?_)
                obtain ⟨rfl, rfl, rfl⟩ := so3 hf
                exact W.iret hx hb hr (fun t ht _ => ⟨rfl, by rw [ht]; exact hW, hS.F ht⟩) hS.2.2 dX3_copy_90
          · rw [if_neg c14] at hf
            refine lv_aload_n hx hb dX3_copy_56 rfl (lv_at hl 0 rfl) ?_
            refine lv_iconst (v := 5) hx hb dX3_copy_57 (by decide) ?_
            obtain ⟨v34, I35, A36, h36, hf⟩ := ob3_e hf
            refine g_vW (ov := some (.int v34)) (D := D) (Sc := mS) (adc := ad) (Ic := I) (Ac := A) (Rc := nR) (Gc := nG) (As := [.int 5]) (rest := []) (Ic1 := I35) (Ac1 := A36) (Rc1 := nR) (Gc1 := nG) (b := ad 99) (C := RX3) ⟨hx, hb, hml, hown, hts⟩ (m_found_met l D ad hI I A 5 v34 I35 A36 h36) (g_cwV 1 hts (lw_V q1299 q1301 qs33 q82 q1302) rfl rfl m_found_ds ⟨Nat.le_trans (Nat.le_of_ble_eq_true rfl) hRf, Nat.le_trans (Nat.le_of_ble_eq_true rfl) hRl⟩) (g_recv hK hW mO rfl) hK hW hS hA hcs rfl hl.1 rfl (Nat.le_of_ble_eq_true rfl) dX3_copy_58 (fun H locs hW _ hS => ?_)
            obtain ⟨rfl, rfl, rfl⟩ := so3 hf
            exact W.iret hx hb hr (fun t ht _ => ⟨rfl, by rw [ht]; exact hW, hS.F ht⟩) hS.2.2 dX3_copy_61
        · rw [if_neg c11] at hf
          refine lv_aload_n hx hb dX3_copy_35 rfl (lv_at hl 0 rfl) ?_
          refine lv_iconst (v := 1) hx hb dX3_copy_36 (by decide) ?_
          obtain ⟨v37, I38, A39, h39, hf⟩ := ob3_e hf
          refine g_vW (ov := some (.int v37)) (D := D) (Sc := mS) (adc := ad) (Ic := I) (Ac := A) (Rc := nR) (Gc := nG) (As := [.int 1]) (rest := []) (Ic1 := I38) (Ac1 := A39) (Rc1 := nR) (Gc1 := nG) (b := ad 99) (C := RX3) ⟨hx, hb, hml, hown, hts⟩ (m_found_met l D ad hI I A 1 v37 I38 A39 h39) (g_cwV 1 hts (lw_V q1299 q1301 qs33 q82 q1302) rfl rfl m_found_ds ⟨Nat.le_trans (Nat.le_of_ble_eq_true rfl) hRf, Nat.le_trans (Nat.le_of_ble_eq_true rfl) hRl⟩) (g_recv hK hW mO rfl) hK hW hS hA hcs rfl hl.1 rfl (Nat.le_of_ble_eq_true rfl) dX3_copy_37 (fun H locs hW _ hS => ?_)
          obtain ⟨rfl, rfl, rfl⟩ := so3 hf
          exact W.iret hx hb hr (fun t ht _ => ⟨rfl, by rw [ht]; exact hW, hS.F ht⟩) hS.2.2 dX3_copy_40
    · rw [if_pos c4] at hf
      refine lv_ldc (v := (-1000001)) hx hb hown (hts _ q1298) dX3_copy_14 ?_
      obtain ⟨rfl, rfl, rfl⟩ := so3 hf
      exact W.iret hx hb hr (fun t ht _ => ⟨rfl, by rw [ht]; exact hW, hS.F ht⟩) hS.2.2 dX3_copy_16
theorem m_copy_ds : yX3_copy.cls = RX3 ∧ yX3_copy.cls ≠ "java/lang/invoke/MethodHandle" ∧ yX3_copy.cls ≠ "java/lang/invoke/VarHandle" ∧ (parseMethodDescriptor yX3_copy.desc).map (fun d => d.parameters.length) = some 5 := by decide +kernel
/-! drop -/
def m_drop (I : Nat → Int32) (A : Nat → Nat → Int32) (a0 : Int32) : Option (Int32 × (Nat → Int32) × (Nat → Nat → Int32)) :=
  ob1 (m_isRow a0) fun (v1 : Int32) =>
  if v1 = 0 then (some ((-1000001), I, A)) else (ob1 (ldO (A 3) 8 a0) fun (v3 : Int32) =>
    if 0 ≤ v3 then (ob1 (stO (A 3) 8 a0 (-1)) fun (f5 : Nat → Int32) =>
      ob1 (ldO ((va_up A 3 f5) 4) 8 a0) fun (v6 : Int32) =>
      ob3 (m_well I (va_up A 3 f5) v6) fun (v7 : Int32) (I8 : Nat → Int32) (A9 : Nat → Nat → Int32) =>
      some (v7, I8, A9)) else (ob3 (m_found I A 1) fun (v10 : Int32) (I11 : Nat → Int32) (A12 : Nat → Nat → Int32) =>
      some (v10, I11, A12)))
set_option maxRecDepth 100000 in
set_option maxHeartbeats 4000000 in
theorem m_drop_met (l : Launch) (D : dd_) (ad : Nat → Nat) (hI : Inj mS ad) (I : Nat → Int32) (A : Nat → Nat → Int32) (a0 : Int32) (r : Int32) (I1 : (Nat → Int32)) (A1 : (Nat → Nat → Int32)) (hf : m_drop I A a0 = some (r, I1, A1)) : Met l yX3_drop (ws_ yX3_drop cX3_drop 2 (some .int)) ({ frames := 3, cells := 0, slots := 0, locals := 61 }) (PcW D mS ad I A nR nG [.ref (ad 99), .int a0]) (QcW D mS ad I1 A1 nR nG (some (.int r))) 0 0 (frS mS ad) := by
  refine Met.ofW (cc := cX3_drop) (maxL := 2) (ret := (some .int)) (by decide) rfl ?_
  intro p e s m args below meth c s₁ B hml hv
  obtain ⟨rfl, hK, hW⟩ := hv
  have hx := B.exec
  have hb := B.bytes
  have hr := B.returns
  have hts := atoms_spec (ws := (ws_ yX3_drop cX3_drop 2 (some .int))) B.pre
  have hts : ∀ w ∈ lw_all, w.before _ s = true := fun w h => hts w (List.mem_cons_of_mem _ h)
  have hown : s.vm.findClass RX3 = some m.cls := findClass_of_methodNamed B.named
  have hlocks := B.notSynchronized
  have hRf : 3 ≤ (headSpec (ws_ yX3_drop cX3_drop 2 (some .int)) ({ frames := 3, cells := 0, slots := 0, locals := 61 })).room.frames := Nat.le_refl _
  have hRl : 61 ≤ (headSpec (ws_ yX3_drop cX3_drop 2 (some .int)) ({ frames := 3, cells := 0, slots := 0, locals := 61 })).room.locals := Nat.le_refl _
  have hcs : 0 ≤ (headSpec (ws_ yX3_drop cX3_drop 2 (some .int)) ({ frames := 3, cells := 0, slots := 0, locals := 61 })).room.cells ∧ 0 ≤ (headSpec (ws_ yX3_drop cX3_drop 2 (some .int)) ({ frames := 3, cells := 0, slots := 0, locals := 61 })).room.slots := ⟨Nat.zero_le _, Nat.zero_le _⟩
  have hA : ∀ i ∈ idxS mS, frS mS ad (ad i) := fun i hi => ⟨i, hi, rfl⟩
  have hS : va_S (frS mS ad) s.heap s.heap [] := va_S.rf
  have hl := lv_entry ([.ref (ad 99), .int a0]) (n := 2) (Nat.le_of_ble_eq_true rfl)
  rw [lg_entry_eq]
  generalize (lg_sl ([.ref (ad 99), .int a0]) ++ List.replicate (2 - (lg_sl ([.ref (ad 99), .int a0])).length) Slot.unset).toArray = ls at hl ⊢
  have hl : lv_has ls 2 [(0, .ref (ad 99)), (1, .int a0)] := hl
  have hf : (ob1 (m_isRow a0) fun (v1 : Int32) =>
    if v1 = 0 then (some ((-1000001), I, A)) else (ob1 (ldO (A 3) 8 a0) fun (v3 : Int32) =>
      if 0 ≤ v3 then (ob1 (stO (A 3) 8 a0 (-1)) fun (f5 : Nat → Int32) =>
        ob1 (ldO ((va_up A 3 f5) 4) 8 a0) fun (v6 : Int32) =>
        ob3 (m_well I (va_up A 3 f5) v6) fun (v7 : Int32) (I8 : Nat → Int32) (A9 : Nat → Nat → Int32) =>
        some (v7, I8, A9)) else (ob3 (m_found I A 1) fun (v10 : Int32) (I11 : Nat → Int32) (A12 : Nat → Nat → Int32) =>
        some (v10, I11, A12)))) = some (r, I1, A1) := hf
  refine lv_iload_n hx hb dX3_drop_0 rfl (lv_at hl 1 rfl) ?_
  obtain ⟨v1, h1, hf⟩ := ob1_e hf
  refine g_sR (ov := some (.int v1)) (D := D) (Sc := nS) (adc := ad) (Ic := (fun _ => 0)) (Ac := (fun _ _ => 0)) (Rc := nR) (Gc := nG) (As := [.int a0]) (rest := []) ⟨hx, hb, hml, hown, hts⟩ (m_isRow_met l D ad a0 v1 h1) (va_cwS 1 hts (lw_S q1290 q1291 q82 q1292) rfl rfl rfl m_isRow_ds.2 ⟨Nat.le_trans (Nat.le_of_ble_eq_true rfl) hRf, Nat.le_trans (Nat.le_of_ble_eq_true rfl) hRl⟩) hK WH_nil hcs rfl hl.1 rfl (Nat.le_of_ble_eq_true rfl) dX3_drop_1 ?_
  refine lv_if_ne (tgt := 10) hx hb dX3_drop_4 (by decide) (fun c2 => ?_) (fun c2 => ?_)
  · rw [if_neg c2] at hf
    refine lv_aload_n hx hb dX3_drop_10 rfl (lv_at hl 0 rfl) ?_
    refine g_get (v := .ref (ad 3)) hx hb hts hown hK hW mO in_X3 rfl 3 (by decide) q1215 rfl rfl dX3_drop_11 ?_
    refine lv_iload_n hx hb dX3_drop_14 rfl (lv_at hl 1 rfl) ?_
    obtain ⟨v3, hv3, hf⟩ := ob1_e hf
    refine g_iald hx hb hK hW mA3 hv3 dX3_drop_15 ?_
    refine lv_if_ge (tgt := 25) hx hb dX3_drop_16 (by decide) (fun c4 => ?_) (fun c4 => ?_)
    · rw [if_pos c4] at hf
      refine lv_aload_n hx hb dX3_drop_25 rfl (lv_at hl 0 rfl) ?_
      refine g_get (v := .ref (ad 3)) hx hb hts hown hK hW mO in_X3 rfl 3 (by decide) q1215 rfl rfl dX3_drop_26 ?_
      refine lv_iload_n hx hb dX3_drop_29 rfl (lv_at hl 1 rfl) ?_
      refine lv_iconst (v := (-1)) hx hb dX3_drop_30 (by decide) ?_
      obtain ⟨f5, hf5, hf⟩ := ob1_e hf
      refine g_iast hx hb hK mwf hI hA hW hS mA3 hf5 dX3_drop_31 (fun H locs hW hS => ?_)
      refine lv_aload_n hx hb dX3_drop_32 rfl (lv_at hl 0 rfl) ?_
      refine lv_aload_n hx hb dX3_drop_33 rfl (lv_at hl 0 rfl) ?_
      refine g_get (v := .ref (ad 4)) hx hb hts hown hK hW mO in_X3 rfl 4 (by decide) q1216 rfl rfl dX3_drop_34 ?_
      refine lv_iload_n hx hb dX3_drop_37 rfl (lv_at hl 1 rfl) ?_
      obtain ⟨v6, hv6, hf⟩ := ob1_e hf
      refine g_iald hx hb hK hW mA4 hv6 dX3_drop_38 ?_
      obtain ⟨v7, I8, A9, h9, hf⟩ := ob3_e hf
      refine g_vW (ov := some (.int v7)) (D := D) (Sc := mS) (adc := ad) (Ic := I) (Ac := (va_up A 3 f5)) (Rc := nR) (Gc := nG) (As := [.int v6]) (rest := []) (Ic1 := I8) (Ac1 := A9) (Rc1 := nR) (Gc1 := nG) (b := ad 99) (C := RX3) ⟨hx, hb, hml, hown, hts⟩ (m_well_met l D ad hI I (va_up A 3 f5) v6 v7 I8 A9 h9) (g_cwV 1 hts (lw_V q1304 q1306 qs34 q82 q1307) rfl rfl m_well_ds ⟨Nat.le_trans (Nat.le_of_ble_eq_true rfl) hRf, Nat.le_trans (Nat.le_of_ble_eq_true rfl) hRl⟩) (g_recv hK hW mO rfl) hK hW hS hA hcs rfl hl.1 rfl (Nat.le_of_ble_eq_true rfl) dX3_drop_39 (fun H locs hW _ hS => ?_)
      obtain ⟨rfl, rfl, rfl⟩ := so3 hf
      exact W.iret hx hb hr (fun t ht _ => ⟨rfl, by rw [ht]; exact hW, hS.F ht⟩) hS.2.2 dX3_drop_42
    · rw [if_neg c4] at hf
      refine lv_aload_n hx hb dX3_drop_19 rfl (lv_at hl 0 rfl) ?_
      refine lv_iconst (v := 1) hx hb dX3_drop_20 (by decide) ?_
      obtain ⟨v10, I11, A12, h12, hf⟩ := ob3_e hf
      refine g_vW (ov := some (.int v10)) (D := D) (Sc := mS) (adc := ad) (Ic := I) (Ac := A) (Rc := nR) (Gc := nG) (As := [.int 1]) (rest := []) (Ic1 := I11) (Ac1 := A12) (Rc1 := nR) (Gc1 := nG) (b := ad 99) (C := RX3) ⟨hx, hb, hml, hown, hts⟩ (m_found_met l D ad hI I A 1 v10 I11 A12 h12) (g_cwV 1 hts (lw_V q1299 q1301 qs33 q82 q1302) rfl rfl m_found_ds ⟨Nat.le_trans (Nat.le_of_ble_eq_true rfl) hRf, Nat.le_trans (Nat.le_of_ble_eq_true rfl) hRl⟩) (g_recv hK hW mO rfl) hK hW hS hA hcs rfl hl.1 rfl (Nat.le_of_ble_eq_true rfl) dX3_drop_21 (fun H locs hW _ hS => ?_)
      obtain ⟨rfl, rfl, rfl⟩ := so3 hf
      exact W.iret hx hb hr (fun t ht _ => ⟨rfl, by rw [ht]; exact hW, hS.F ht⟩) hS.2.2 dX3_drop_24
  · rw [if_pos c2] at hf
    refine lv_ldc (v := (-1000001)) hx hb hown (hts _ q1298) dX3_drop_7 ?_
    obtain ⟨rfl, rfl, rfl⟩ := so3 hf
    exact W.iret hx hb hr (fun t ht _ => ⟨rfl, by rw [ht]; exact hW, hS.F ht⟩) hS.2.2 dX3_drop_9
theorem m_drop_ds : yX3_drop.cls = RX3 ∧ yX3_drop.cls ≠ "java/lang/invoke/MethodHandle" ∧ yX3_drop.cls ≠ "java/lang/invoke/VarHandle" ∧ (parseMethodDescriptor yX3_drop.desc).map (fun d => d.parameters.length) = some 1 := by decide +kernel
/-! feed -/
def m_feed (I : Nat → Int32) (A : Nat → Nat → Int32) (a0 : Int32) : Option (Int32 × (Nat → Int32) × (Nat → Nat → Int32)) :=
  ob1 (m_in a0.toInt64 0 255) fun (v1 : Int32) =>
  if v1 = 0 then (some ((-1000001), I, A)) else (if (I 9) = 120 then (some ((-1000003), I, A)) else (ob1 (stO (A 8) 120 (I 9) a0) fun (f4 : Nat → Int32) =>
      some ((upd I 9 ((I 9) + 1)) 9, upd I 9 ((I 9) + 1), va_up A 8 f4)))
set_option maxRecDepth 100000 in
set_option maxHeartbeats 4000000 in
theorem m_feed_met (l : Launch) (D : dd_) (ad : Nat → Nat) (hI : Inj mS ad) (I : Nat → Int32) (A : Nat → Nat → Int32) (a0 : Int32) (r : Int32) (I1 : (Nat → Int32)) (A1 : (Nat → Nat → Int32)) (hf : m_feed I A a0 = some (r, I1, A1)) : Met l yX3_feed (ws_ yX3_feed cX3_feed 2 (some .int)) ({ frames := 2, cells := 0, slots := 0, locals := 41 }) (PcW D mS ad I A nR nG [.ref (ad 99), .int a0]) (QcW D mS ad I1 A1 nR nG (some (.int r))) 0 0 (frS mS ad) := by
  refine Met.ofW (cc := cX3_feed) (maxL := 2) (ret := (some .int)) (by decide) rfl ?_
  intro p e s m args below meth c s₁ B hml hv
  obtain ⟨rfl, hK, hW⟩ := hv
  have hx := B.exec
  have hb := B.bytes
  have hr := B.returns
  have hts := atoms_spec (ws := (ws_ yX3_feed cX3_feed 2 (some .int))) B.pre
  have hts : ∀ w ∈ lw_all, w.before _ s = true := fun w h => hts w (List.mem_cons_of_mem _ h)
  have hown : s.vm.findClass RX3 = some m.cls := findClass_of_methodNamed B.named
  have hlocks := B.notSynchronized
  have hRf : 2 ≤ (headSpec (ws_ yX3_feed cX3_feed 2 (some .int)) ({ frames := 2, cells := 0, slots := 0, locals := 41 })).room.frames := Nat.le_refl _
  have hRl : 41 ≤ (headSpec (ws_ yX3_feed cX3_feed 2 (some .int)) ({ frames := 2, cells := 0, slots := 0, locals := 41 })).room.locals := Nat.le_refl _
  have hcs : 0 ≤ (headSpec (ws_ yX3_feed cX3_feed 2 (some .int)) ({ frames := 2, cells := 0, slots := 0, locals := 41 })).room.cells ∧ 0 ≤ (headSpec (ws_ yX3_feed cX3_feed 2 (some .int)) ({ frames := 2, cells := 0, slots := 0, locals := 41 })).room.slots := ⟨Nat.zero_le _, Nat.zero_le _⟩
  have hA : ∀ i ∈ idxS mS, frS mS ad (ad i) := fun i hi => ⟨i, hi, rfl⟩
  have hS : va_S (frS mS ad) s.heap s.heap [] := va_S.rf
  have hl := lv_entry ([.ref (ad 99), .int a0]) (n := 2) (Nat.le_of_ble_eq_true rfl)
  rw [lg_entry_eq]
  generalize (lg_sl ([.ref (ad 99), .int a0]) ++ List.replicate (2 - (lg_sl ([.ref (ad 99), .int a0])).length) Slot.unset).toArray = ls at hl ⊢
  have hl : lv_has ls 2 [(0, .ref (ad 99)), (1, .int a0)] := hl
  have hf : (ob1 (m_in a0.toInt64 0 255) fun (v1 : Int32) =>
    if v1 = 0 then (some ((-1000001), I, A)) else (if (I 9) = 120 then (some ((-1000003), I, A)) else (ob1 (stO (A 8) 120 (I 9) a0) fun (f4 : Nat → Int32) =>
        some ((upd I 9 ((I 9) + 1)) 9, upd I 9 ((I 9) + 1), va_up A 8 f4)))) = some (r, I1, A1) := hf
  refine lv_iload_n hx hb dX3_feed_0 rfl (lv_at hl 1 rfl) ?_
  refine lv_i2l (v := a0.toInt64) hx hb dX3_feed_1 rfl ?_
  refine lv_lconst (v := 0) hx hb dX3_feed_2 (by decide) ?_
  refine lv_ldc2 (v := 255) hx hb hown (hts _ q1331) dX3_feed_3 ?_
  obtain ⟨v1, h1, hf⟩ := ob1_e hf
  refine g_sR (ov := some (.int v1)) (D := D) (Sc := nS) (adc := ad) (Ic := (fun _ => 0)) (Ac := (fun _ _ => 0)) (Rc := nR) (Gc := nG) (As := [.long a0.toInt64, .long 0, .long 255]) (rest := []) ⟨hx, hb, hml, hown, hts⟩ (m_in_met l D ad a0.toInt64 0 255 v1 h1) (va_cwS 3 hts (lw_S q1294 q1295 q82 q1296) rfl rfl rfl m_in_ds.2 ⟨Nat.le_trans (Nat.le_of_ble_eq_true rfl) hRf, Nat.le_trans (Nat.le_of_ble_eq_true rfl) hRl⟩) hK WH_nil hcs rfl hl.1 rfl (Nat.le_of_ble_eq_true rfl) dX3_feed_6 ?_
  refine lv_if_ne (tgt := 15) hx hb dX3_feed_9 (by decide) (fun c2 => ?_) (fun c2 => ?_)
  · rw [if_neg c2] at hf
    refine lv_aload_n hx hb dX3_feed_15 rfl (lv_at hl 0 rfl) ?_
    refine g_get (v := .int (I 9)) hx hb hts hown hK hW mO in_X3 rfl 9 (by decide) q1221 rfl rfl dX3_feed_16 ?_
    refine lv_bipush (v := 120) hx hb dX3_feed_19 (by decide) ?_
    refine lv_icmp_ne (tgt := 27) hx hb dX3_feed_21 (by decide) (fun c3 => ?_) (fun c3 => ?_)
    · rw [if_neg c3] at hf
      refine lv_aload_n hx hb dX3_feed_27 rfl (lv_at hl 0 rfl) ?_
      refine g_get (v := .ref (ad 8)) hx hb hts hown hK hW mO in_X3 rfl 8 (by decide) q1220 rfl rfl dX3_feed_28 ?_
      refine lv_aload_n hx hb dX3_feed_31 rfl (lv_at hl 0 rfl) ?_
      refine g_get (v := .int (I 9)) hx hb hts hown hK hW mO in_X3 rfl 9 (by decide) q1221 rfl rfl dX3_feed_32 ?_
      refine lv_iload_n hx hb dX3_feed_35 rfl (lv_at hl 1 rfl) ?_
      obtain ⟨f4, hf4, hf⟩ := ob1_e hf
      refine g_iast hx hb hK mwf hI hA hW hS mA8 hf4 dX3_feed_36 (fun H locs hW hS => ?_)
      refine lv_aload_n hx hb dX3_feed_37 rfl (lv_at hl 0 rfl) ?_
      refine lv_dup hx hb dX3_feed_38 rfl ?_
      refine g_get (v := .int (I 9)) hx hb hts hown hK hW mO in_X3 rfl 9 (by decide) q1221 rfl rfl dX3_feed_39 ?_
      refine lv_iconst (v := 1) hx hb dX3_feed_42 (by decide) ?_
      refine lv_iadd hx hb dX3_feed_43 ?_
      refine g_putI hx hb hts hown hK mwf hI hA hW hS mO in_X3 tyX3 tyX3_ok nmX3 rfl 9 9 (by decide) rfl q1221 rfl rfl (by decide +kernel) dX3_feed_44 (fun H locs hW hS => ?_)
      refine lv_aload_n hx hb dX3_feed_47 rfl (lv_at hl 0 rfl) ?_
      refine g_get (v := .int ((upd I 9 ((I 9) + 1)) 9)) hx hb hts hown hK hW mO in_X3 rfl 9 (by decide) q1221 rfl rfl dX3_feed_48 ?_
      obtain ⟨rfl, rfl, rfl⟩ := so3 hf
      exact W.iret hx hb hr (fun t ht _ => ⟨rfl, by rw [ht]; exact hW, hS.F ht⟩) hS.2.2 dX3_feed_51
    · rw [if_pos c3] at hf
      refine lv_ldc (v := (-1000003)) hx hb hown (hts _ q1332) dX3_feed_24 ?_
      obtain ⟨rfl, rfl, rfl⟩ := so3 hf
      exact W.iret hx hb hr (fun t ht _ => ⟨rfl, by rw [ht]; exact hW, hS.F ht⟩) hS.2.2 dX3_feed_26
  · rw [if_pos c2] at hf
    refine lv_ldc (v := (-1000001)) hx hb hown (hts _ q1298) dX3_feed_12 ?_
    obtain ⟨rfl, rfl, rfl⟩ := so3 hf
    exact W.iret hx hb hr (fun t ht _ => ⟨rfl, by rw [ht]; exact hW, hS.F ht⟩) hS.2.2 dX3_feed_14
theorem m_feed_ds : yX3_feed.cls = RX3 ∧ yX3_feed.cls ≠ "java/lang/invoke/MethodHandle" ∧ yX3_feed.cls ≠ "java/lang/invoke/VarHandle" ∧ (parseMethodDescriptor yX3_feed.desc).map (fun d => d.parameters.length) = some 1 := by decide +kernel
/-! byteAt -/
def m_byteAt (I : Nat → Int32) (A : Nat → Nat → Int32) (a0 : Int32) : Option (Int32) :=
  ob1 (if (I 9) ≤ a0 then ((some (-1) : Option (Int32))) else (ob1 (ldO (A 8) 120 a0) fun (v3 : Int32) =>
      (some v3 : Option (Int32)))) fun (v1 : Int32) =>
  some v1
set_option maxRecDepth 100000 in
set_option maxHeartbeats 4000000 in
theorem m_byteAt_met (l : Launch) (D : dd_) (ad : Nat → Nat) (I : Nat → Int32) (A : Nat → Nat → Int32) (a0 : Int32) (r : Int32) (hf : m_byteAt I A a0 = some r) : Met l yX3_byteAt (ws_ yX3_byteAt cX3_byteAt 2 (some .int)) ({ frames := 1, cells := 0, slots := 0, locals := 16 }) (PcW D mS ad I A nR nG [.ref (ad 99), .int a0]) (QcR (some (.int r))) 0 0 (fun _ => False) := by
  refine Met.ofW (cc := cX3_byteAt) (maxL := 2) (ret := (some .int)) (by decide) rfl ?_
  intro p e s m args below meth c s₁ B hml hv
  obtain ⟨rfl, hK, hW⟩ := hv
  have hx := B.exec
  have hb := B.bytes
  have hr := B.returns
  have hts := atoms_spec (ws := (ws_ yX3_byteAt cX3_byteAt 2 (some .int))) B.pre
  have hts : ∀ w ∈ lw_all, w.before _ s = true := fun w h => hts w (List.mem_cons_of_mem _ h)
  have hown : s.vm.findClass RX3 = some m.cls := findClass_of_methodNamed B.named
  have hlocks := B.notSynchronized
  have hRf : 1 ≤ (headSpec (ws_ yX3_byteAt cX3_byteAt 2 (some .int)) ({ frames := 1, cells := 0, slots := 0, locals := 16 })).room.frames := Nat.le_refl _
  have hRl : 16 ≤ (headSpec (ws_ yX3_byteAt cX3_byteAt 2 (some .int)) ({ frames := 1, cells := 0, slots := 0, locals := 16 })).room.locals := Nat.le_refl _
  have hcs : 0 ≤ (headSpec (ws_ yX3_byteAt cX3_byteAt 2 (some .int)) ({ frames := 1, cells := 0, slots := 0, locals := 16 })).room.cells ∧ 0 ≤ (headSpec (ws_ yX3_byteAt cX3_byteAt 2 (some .int)) ({ frames := 1, cells := 0, slots := 0, locals := 16 })).room.slots := ⟨Nat.zero_le _, Nat.zero_le _⟩
  have hl := lv_entry ([.ref (ad 99), .int a0]) (n := 2) (Nat.le_of_ble_eq_true rfl)
  rw [lg_entry_eq]
  generalize (lg_sl ([.ref (ad 99), .int a0]) ++ List.replicate (2 - (lg_sl ([.ref (ad 99), .int a0])).length) Slot.unset).toArray = ls at hl ⊢
  have hl : lv_has ls 2 [(0, .ref (ad 99)), (1, .int a0)] := hl
  have hf : (ob1 (if (I 9) ≤ a0 then ((some (-1) : Option (Int32))) else (ob1 (ldO (A 8) 120 a0) fun (v3 : Int32) =>
        (some v3 : Option (Int32)))) fun (v1 : Int32) =>
    some v1) = some r := hf
  refine lv_iload_n hx hb dX3_byteAt_0 rfl (lv_at hl 1 rfl) ?_
  refine lv_aload_n hx hb dX3_byteAt_1 rfl (lv_at hl 0 rfl) ?_
  refine g_get (v := .int (I 9)) hx hb hts hown hK hW mO in_X3 rfl 9 (by decide) q1221 rfl rfl dX3_byteAt_2 ?_
  obtain ⟨v1, hm1, hf⟩ := ob1_e hf
  refine w_cutL (nL := 2) (L := []) (pcj := 18) (st := [.int v1]) (fun ls hl => ?_) (fun K1 => ?_)
  · obtain rfl := so1 hf
    exact W.iret hx hb hr (fun t ht _ => ⟨rfl, ht⟩) (fun q hq => by cases hq) dX3_byteAt_18
  · refine lv_icmp_ge (tgt := 17) hx hb dX3_byteAt_5 (by decide) (fun c2 => ?_) (fun c2 => ?_)
    · rw [if_pos c2] at hm1
      refine lv_iconst (v := (-1)) hx hb dX3_byteAt_17 (by decide) ?_
      obtain rfl := so1 hm1
      exact K1 ls (lv_sub hl [] rfl)
    · rw [if_neg c2] at hm1
      refine lv_aload_n hx hb dX3_byteAt_8 rfl (lv_at hl 0 rfl) ?_
      refine g_get (v := .ref (ad 8)) hx hb hts hown hK hW mO in_X3 rfl 8 (by decide) q1220 rfl rfl dX3_byteAt_9 ?_
      refine lv_iload_n hx hb dX3_byteAt_12 rfl (lv_at hl 1 rfl) ?_
      obtain ⟨v3, hv3, hm1⟩ := ob1_e hm1
      refine g_iald hx hb hK hW mA8 hv3 dX3_byteAt_13 ?_
      refine lv_goto (tgt := 18) hx hb dX3_byteAt_14 (by decide) ?_
      obtain rfl := so1 hm1
      exact K1 ls (lv_sub hl [] rfl)
theorem m_byteAt_ds : yX3_byteAt.cls = RX3 ∧ yX3_byteAt.cls ≠ "java/lang/invoke/MethodHandle" ∧ yX3_byteAt.cls ≠ "java/lang/invoke/VarHandle" ∧ (parseMethodDescriptor yX3_byteAt.desc).map (fun d => d.parameters.length) = some 1 := by decide +kernel
/-! takes -/
def m_takes (I : Nat → Int32) (A : Nat → Nat → Int32) (a0 : Int32) : Option (Int32 × (Nat → Int32) × (Nat → Nat → Int32)) :=
  ob1 (m_byteAt (upd (upd I 12 (I 11)) 13 1) A ((upd (upd I 12 (I 11)) 13 1) 11)) fun (v1 : Int32) =>
  ob1 (if v1 = a0 then ((some 1 : Option (Int32))) else ((some 0 : Option (Int32)))) fun (v2 : Int32) =>
  ob1 (if v2 = 0 then ((some 0 : Option (Int32))) else ((some 1 : Option (Int32)))) fun (v4 : Int32) =>
  ob1 (zO v2) fun (v6 : Int32) =>
  some (v6, upd (upd (upd I 12 (I 11)) 13 1) 11 (((upd (upd I 12 (I 11)) 13 1) 11) + v4), A)
set_option maxRecDepth 100000 in
set_option maxHeartbeats 4000000 in
theorem m_takes_met (l : Launch) (D : dd_) (ad : Nat → Nat) (hI : Inj mS ad) (I : Nat → Int32) (A : Nat → Nat → Int32) (a0 : Int32) (r : Int32) (I1 : (Nat → Int32)) (A1 : (Nat → Nat → Int32)) (hf : m_takes I A a0 = some (r, I1, A1)) : Met l yX3_takes (ws_ yX3_takes cX3_takes 3 (some .boolean)) ({ frames := 2, cells := 0, slots := 0, locals := 37 }) (PcW D mS ad I A nR nG [.ref (ad 99), .int a0]) (QcW D mS ad I1 A1 nR nG (some (.int r))) 0 0 (frS mS ad) := by
  refine Met.ofW (cc := cX3_takes) (maxL := 3) (ret := (some .boolean)) (by decide) rfl ?_
  intro p e s m args below meth c s₁ B hml hv
  obtain ⟨rfl, hK, hW⟩ := hv
  have hx := B.exec
  have hb := B.bytes
  have hr := B.returns
  have hts := atoms_spec (ws := (ws_ yX3_takes cX3_takes 3 (some .boolean))) B.pre
  have hts : ∀ w ∈ lw_all, w.before _ s = true := fun w h => hts w (List.mem_cons_of_mem _ h)
  have hown : s.vm.findClass RX3 = some m.cls := findClass_of_methodNamed B.named
  have hlocks := B.notSynchronized
  have hRf : 2 ≤ (headSpec (ws_ yX3_takes cX3_takes 3 (some .boolean)) ({ frames := 2, cells := 0, slots := 0, locals := 37 })).room.frames := Nat.le_refl _
  have hRl : 37 ≤ (headSpec (ws_ yX3_takes cX3_takes 3 (some .boolean)) ({ frames := 2, cells := 0, slots := 0, locals := 37 })).room.locals := Nat.le_refl _
  have hcs : 0 ≤ (headSpec (ws_ yX3_takes cX3_takes 3 (some .boolean)) ({ frames := 2, cells := 0, slots := 0, locals := 37 })).room.cells ∧ 0 ≤ (headSpec (ws_ yX3_takes cX3_takes 3 (some .boolean)) ({ frames := 2, cells := 0, slots := 0, locals := 37 })).room.slots := ⟨Nat.zero_le _, Nat.zero_le _⟩
  have hA : ∀ i ∈ idxS mS, frS mS ad (ad i) := fun i hi => ⟨i, hi, rfl⟩
  have hS : va_S (frS mS ad) s.heap s.heap [] := va_S.rf
  have hl := lv_entry ([.ref (ad 99), .int a0]) (n := 3) (Nat.le_of_ble_eq_true rfl)
  rw [lg_entry_eq]
  generalize (lg_sl ([.ref (ad 99), .int a0]) ++ List.replicate (3 - (lg_sl ([.ref (ad 99), .int a0])).length) Slot.unset).toArray = ls at hl ⊢
  have hl : lv_has ls 3 [(0, .ref (ad 99)), (1, .int a0)] := hl
  have hf : (ob1 (m_byteAt (upd (upd I 12 (I 11)) 13 1) A ((upd (upd I 12 (I 11)) 13 1) 11)) fun (v1 : Int32) =>
    ob1 (if v1 = a0 then ((some 1 : Option (Int32))) else ((some 0 : Option (Int32)))) fun (v2 : Int32) =>
    ob1 (if v2 = 0 then ((some 0 : Option (Int32))) else ((some 1 : Option (Int32)))) fun (v4 : Int32) =>
    ob1 (zO v2) fun (v6 : Int32) =>
    some (v6, upd (upd (upd I 12 (I 11)) 13 1) 11 (((upd (upd I 12 (I 11)) 13 1) 11) + v4), A)) = some (r, I1, A1) := hf
  refine lv_aload_n hx hb dX3_takes_0 rfl (lv_at hl 0 rfl) ?_
  refine lv_aload_n hx hb dX3_takes_1 rfl (lv_at hl 0 rfl) ?_
  refine g_get (v := .int (I 11)) hx hb hts hown hK hW mO in_X3 rfl 11 (by decide) q1223 rfl rfl dX3_takes_2 ?_
  refine g_putI hx hb hts hown hK mwf hI hA hW hS mO in_X3 tyX3 tyX3_ok nmX3 rfl 12 12 (by decide) rfl q1224 rfl rfl (by decide +kernel) dX3_takes_5 (fun H locs hW hS => ?_)
  refine lv_aload_n hx hb dX3_takes_8 rfl (lv_at hl 0 rfl) ?_
  refine lv_iconst (v := 1) hx hb dX3_takes_9 (by decide) ?_
  refine g_putI hx hb hts hown hK mwf hI hA hW hS mO in_X3 tyX3 tyX3_ok nmX3 rfl 13 13 (by decide) rfl q1225 rfl rfl (by decide +kernel) dX3_takes_10 (fun H locs hW hS => ?_)
  refine lv_aload_n hx hb dX3_takes_13 rfl (lv_at hl 0 rfl) ?_
  refine lv_aload_n hx hb dX3_takes_14 rfl (lv_at hl 0 rfl) ?_
  refine g_get (v := .int ((upd (upd I 12 (I 11)) 13 1) 11)) hx hb hts hown hK hW mO in_X3 rfl 11 (by decide) q1223 rfl rfl dX3_takes_15 ?_
  obtain ⟨v1, h1, hf⟩ := ob1_e hf
  refine g_vR (ov := some (.int v1)) (D := D) (Sc := mS) (adc := ad) (Ic := (upd (upd I 12 (I 11)) 13 1)) (Ac := A) (Rc := nR) (Gc := nG) (As := [.int ((upd (upd I 12 (I 11)) 13 1) 11)]) (rest := []) (b := ad 99) (C := RX3) ⟨hx, hb, hml, hown, hts⟩ (m_byteAt_met l D ad (upd (upd I 12 (I 11)) 13 1) A ((upd (upd I 12 (I 11)) 13 1) 11) v1 h1) (g_cwV 1 hts (lw_V q1349 q1351 qs39 q82 q1352) rfl rfl m_byteAt_ds ⟨Nat.le_trans (Nat.le_of_ble_eq_true rfl) hRf, Nat.le_trans (Nat.le_of_ble_eq_true rfl) hRl⟩) (g_recv hK hW mO rfl) hK hW hcs rfl hl.1 rfl (Nat.le_of_ble_eq_true rfl) dX3_takes_18 ?_
  refine lv_iload_n hx hb dX3_takes_21 rfl (lv_at hl 1 rfl) ?_
  obtain ⟨v2, hm2, hf⟩ := ob1_e hf
  refine w_cutL (nL := 3) (L := [(0, .ref (ad 99))]) (pcj := 30) (st := [.int v2]) (fun ls hl => ?_) (fun K2 => ?_)
  · refine lv_istore_n (lv' := [(2, .int v2), (0, .ref (ad 99))]) hx hb dX3_takes_30 rfl hl (by decide) rfl (fun ls hl => ?_)
    refine lv_aload_n hx hb dX3_takes_31 rfl (lv_at hl 1 rfl) ?_
    refine lv_dup hx hb dX3_takes_32 rfl ?_
    refine g_get (v := .int ((upd (upd I 12 (I 11)) 13 1) 11)) hx hb hts hown hK hW mO in_X3 rfl 11 (by decide) q1223 rfl rfl dX3_takes_33 ?_
    refine lv_iload_n hx hb dX3_takes_36 rfl (lv_at hl 0 rfl) ?_
    obtain ⟨v4, hm4, hf⟩ := ob1_e hf
    refine w_cutL (nL := 3) (L := [(2, .int v2)]) (pcj := 45) (st := [.int v4, .int ((upd (upd I 12 (I 11)) 13 1) 11), .ref (ad 99)]) (fun ls hl => ?_) (fun K4 => ?_)
    · refine lv_iadd hx hb dX3_takes_45 ?_
      refine g_putI hx hb hts hown hK mwf hI hA hW hS mO in_X3 tyX3 tyX3_ok nmX3 rfl 11 11 (by decide) rfl q1223 rfl rfl (by decide +kernel) dX3_takes_46 (fun H locs hW hS => ?_)
      refine lv_iload_n hx hb dX3_takes_49 rfl (lv_at hl 0 rfl) ?_
      obtain ⟨v6, hv6, hf⟩ := ob1_e hf
      obtain ⟨hz, rfl⟩ := zO_e hv6
      obtain ⟨rfl, rfl, rfl⟩ := so3 hf
      exact W.zret hx hb hr (nar_z hz) (fun t ht _ => ⟨rfl, by rw [ht]; exact hW, hS.F ht⟩) hS.2.2 dX3_takes_50
    · refine lv_if_eq (tgt := 44) hx hb dX3_takes_37 (by decide) (fun c5 => ?_) (fun c5 => ?_)
      · rw [if_pos c5] at hm4
        refine lv_iconst (v := 0) hx hb dX3_takes_44 (by decide) ?_
        obtain rfl := so1 hm4
        exact K4 ls (lv_sub hl [0] rfl)
      · rw [if_neg c5] at hm4
        refine lv_iconst (v := 1) hx hb dX3_takes_40 (by decide) ?_
        refine lv_goto (tgt := 45) hx hb dX3_takes_41 (by decide) ?_
        obtain rfl := so1 hm4
        exact K4 ls (lv_sub hl [0] rfl)
  · refine lv_icmp_ne (tgt := 29) hx hb dX3_takes_22 (by decide) (fun c3 => ?_) (fun c3 => ?_)
    · rw [if_neg c3] at hm2
      refine lv_iconst (v := 0) hx hb dX3_takes_29 (by decide) ?_
      obtain rfl := so1 hm2
      exact K2 ls (lv_sub hl [0] rfl)
    · rw [if_pos c3] at hm2
      refine lv_iconst (v := 1) hx hb dX3_takes_25 (by decide) ?_
      refine lv_goto (tgt := 30) hx hb dX3_takes_26 (by decide) ?_
      obtain rfl := so1 hm2
      exact K2 ls (lv_sub hl [0] rfl)
theorem m_takes_ds : yX3_takes.cls = RX3 ∧ yX3_takes.cls ≠ "java/lang/invoke/MethodHandle" ∧ yX3_takes.cls ≠ "java/lang/invoke/VarHandle" ∧ (parseMethodDescriptor yX3_takes.desc).map (fun d => d.parameters.length) = some 1 := by decide +kernel
/-! isFigure -/
def m_isFigure (I : Nat → Int32) (A : Nat → Nat → Int32) (a0 : Int32) : Option (Int32) :=
  ob1 (m_byteAt I A a0) fun (v1 : Int32) =>
  ob1 (m_in v1.toInt64 48 57) fun (v2 : Int32) =>
  zO v2
set_option maxRecDepth 100000 in
set_option maxHeartbeats 4000000 in
theorem m_isFigure_met (l : Launch) (D : dd_) (ad : Nat → Nat) (I : Nat → Int32) (A : Nat → Nat → Int32) (a0 : Int32) (r : Int32) (hf : m_isFigure I A a0 = some r) : Met l yX3_isFigure (ws_ yX3_isFigure cX3_isFigure 2 (some .boolean)) ({ frames := 2, cells := 0, slots := 0, locals := 41 }) (PcW D mS ad I A nR nG [.ref (ad 99), .int a0]) (QcR (some (.int r))) 0 0 (fun _ => False) := by
  refine Met.ofW (cc := cX3_isFigure) (maxL := 2) (ret := (some .boolean)) (by decide) rfl ?_
  intro p e s m args below meth c s₁ B hml hv
  obtain ⟨rfl, hK, hW⟩ := hv
  have hx := B.exec
  have hb := B.bytes
  have hr := B.returns
  have hts := atoms_spec (ws := (ws_ yX3_isFigure cX3_isFigure 2 (some .boolean))) B.pre
  have hts : ∀ w ∈ lw_all, w.before _ s = true := fun w h => hts w (List.mem_cons_of_mem _ h)
  have hown : s.vm.findClass RX3 = some m.cls := findClass_of_methodNamed B.named
  have hlocks := B.notSynchronized
  have hRf : 2 ≤ (headSpec (ws_ yX3_isFigure cX3_isFigure 2 (some .boolean)) ({ frames := 2, cells := 0, slots := 0, locals := 41 })).room.frames := Nat.le_refl _
  have hRl : 41 ≤ (headSpec (ws_ yX3_isFigure cX3_isFigure 2 (some .boolean)) ({ frames := 2, cells := 0, slots := 0, locals := 41 })).room.locals := Nat.le_refl _
  have hcs : 0 ≤ (headSpec (ws_ yX3_isFigure cX3_isFigure 2 (some .boolean)) ({ frames := 2, cells := 0, slots := 0, locals := 41 })).room.cells ∧ 0 ≤ (headSpec (ws_ yX3_isFigure cX3_isFigure 2 (some .boolean)) ({ frames := 2, cells := 0, slots := 0, locals := 41 })).room.slots := ⟨Nat.zero_le _, Nat.zero_le _⟩
  have hl := lv_entry ([.ref (ad 99), .int a0]) (n := 2) (Nat.le_of_ble_eq_true rfl)
  rw [lg_entry_eq]
  generalize (lg_sl ([.ref (ad 99), .int a0]) ++ List.replicate (2 - (lg_sl ([.ref (ad 99), .int a0])).length) Slot.unset).toArray = ls at hl ⊢
  have hl : lv_has ls 2 [(0, .ref (ad 99)), (1, .int a0)] := hl
  have hf : (ob1 (m_byteAt I A a0) fun (v1 : Int32) =>
    ob1 (m_in v1.toInt64 48 57) fun (v2 : Int32) =>
    zO v2) = some r := hf
  refine lv_aload_n hx hb dX3_isFigure_0 rfl (lv_at hl 0 rfl) ?_
  refine lv_iload_n hx hb dX3_isFigure_1 rfl (lv_at hl 1 rfl) ?_
  obtain ⟨v1, h1, hf⟩ := ob1_e hf
  refine g_vR (ov := some (.int v1)) (D := D) (Sc := mS) (adc := ad) (Ic := I) (Ac := A) (Rc := nR) (Gc := nG) (As := [.int a0]) (rest := []) (b := ad 99) (C := RX3) ⟨hx, hb, hml, hown, hts⟩ (m_byteAt_met l D ad I A a0 v1 h1) (g_cwV 1 hts (lw_V q1349 q1351 qs39 q82 q1352) rfl rfl m_byteAt_ds ⟨Nat.le_trans (Nat.le_of_ble_eq_true rfl) hRf, Nat.le_trans (Nat.le_of_ble_eq_true rfl) hRl⟩) (g_recv hK hW mO rfl) hK hW hcs rfl hl.1 rfl (Nat.le_of_ble_eq_true rfl) dX3_isFigure_2 ?_
  refine lv_i2l (v := v1.toInt64) hx hb dX3_isFigure_5 rfl ?_
  refine lv_ldc2 (v := 48) hx hb hown (hts _ q1365) dX3_isFigure_6 ?_
  refine lv_ldc2 (v := 57) hx hb hown (hts _ q1366) dX3_isFigure_9 ?_
  obtain ⟨v2, h2, hf⟩ := ob1_e hf
  refine g_sR (ov := some (.int v2)) (D := D) (Sc := nS) (adc := ad) (Ic := (fun _ => 0)) (Ac := (fun _ _ => 0)) (Rc := nR) (Gc := nG) (As := [.long v1.toInt64, .long 48, .long 57]) (rest := []) ⟨hx, hb, hml, hown, hts⟩ (m_in_met l D ad v1.toInt64 48 57 v2 h2) (va_cwS 3 hts (lw_S q1294 q1295 q82 q1296) rfl rfl rfl m_in_ds.2 ⟨Nat.le_trans (Nat.le_of_ble_eq_true rfl) hRf, Nat.le_trans (Nat.le_of_ble_eq_true rfl) hRl⟩) hK WH_nil hcs rfl hl.1 rfl (Nat.le_of_ble_eq_true rfl) dX3_isFigure_12 ?_
  obtain ⟨hz, rfl⟩ := zO_e hf
  exact W.zret hx hb hr (nar_z hz) (fun t ht _ => ⟨rfl, ht⟩) (fun q hq => by cases hq) dX3_isFigure_15
theorem m_isFigure_ds : yX3_isFigure.cls = RX3 ∧ yX3_isFigure.cls ≠ "java/lang/invoke/MethodHandle" ∧ yX3_isFigure.cls ≠ "java/lang/invoke/VarHandle" ∧ (parseMethodDescriptor yX3_isFigure.desc).map (fun d => d.parameters.length) = some 1 := by decide +kernel
/-! takesNumber -/
def m_takesNumber_L20 (u1 : Int32) (u2 : Int32) : Nat → (Nat → Int32) → (Nat → Nat → Int32) → Int32 → Option ((Nat → Int32) × (Nat → Nat → Int32) × Int32)
  | 0, _, _, _ => none
  | n + 1, I, A, x3 =>
    ob1 (m_isFigure I A ((I 11) + x3)) fun (v1 : Int32) =>
    if v1 = 0 then (some (I, A, x3)) else (ob1 (if 2 ≤ x3 then ((some (I 14) : Option (Int32))) else (ob1 (m_byteAt I A ((I 11) + x3)) fun (v5 : Int32) =>
          (some (((10 * (I 14)) + v5) - 48) : Option (Int32)))) fun (v3 : Int32) =>
      m_takesNumber_L20 u1 u2 n (upd I 14 v3) A (x3 + 1))
set_option maxRecDepth 100000 in
set_option maxHeartbeats 4000000 in
theorem m_takesNumber_L20_w {p : Program} {l : Launch} {e : Env} {R0 : Room} {s : State} {m : MethodId} {args : Array Value} {below : List Frame} {meth : Method} {c : Code} {cells slots : Nat} {Q : State → Prop} {D : dd_} {ad : Nat → Nat} (hx : p.tables.exec = Jvm.exec) (hb : c.code = cX3_takesNumber) (hml : c.maxLocals = 4) (hown : s.vm.findClass RX3 = some m.cls) (hts : ∀ w ∈ lw_all, w.before args s = true) (hK : Kx D s) (hRf : 3 ≤ R0.frames) (hRl : 62 ≤ R0.locals) (hcs : cells ≤ R0.cells ∧ slots ≤ R0.slots) (hI : Inj mS ad) (u1 : Int32) (u2 : Int32) (I9 : (Nat → Int32)) (A9 : (Nat → Nat → Int32)) (y3 : Int32) (KX : ∀ (H : Heap) (locs : List Loc) (ls : Array Slot), WH D mS ad I9 A9 nR nG H → va_S (frS mS ad) s.heap H locs → lv_has ls 4 [(0, .ref (ad 99)), (1, .int u1), (2, .int u2), (3, .int y3)] → W p l e R0 s m args below meth c H locs cells slots Q (F0 m 76 ls [])) : ∀ (n : Nat) (I : (Nat → Int32)) (A : (Nat → Nat → Int32)) (x3 : Int32) (H : Heap) (locs : List Loc) (ls : Array Slot), m_takesNumber_L20 u1 u2 n I A x3 = some (I9, A9, y3) → WH D mS ad I A nR nG H → va_S (frS mS ad) s.heap H locs → lv_has ls 4 [(0, .ref (ad 99)), (1, .int u1), (2, .int u2), (3, .int x3)] → W p l e R0 s m args below meth c H locs cells slots Q (F0 m 20 ls []) := by
  intro n
  have hA : ∀ i ∈ idxS mS, frS mS ad (ad i) := fun i hi => ⟨i, hi, rfl⟩
  induction n with
  | zero =>
    intro I A x3 H locs ls hf
    exact nomatch (show (none : Option ((Nat → Int32) × (Nat → Nat → Int32) × Int32)) = some (I9, A9, y3) from hf)
  | succ n ih =>
    intro I A x3 H locs ls hf hW hS hl
    have hf : (ob1 (m_isFigure I A ((I 11) + x3)) fun (v1 : Int32) =>
        if v1 = 0 then (some (I, A, x3)) else (ob1 (if 2 ≤ x3 then ((some (I 14) : Option (Int32))) else (ob1 (m_byteAt I A ((I 11) + x3)) fun (v5 : Int32) =>
              (some (((10 * (I 14)) + v5) - 48) : Option (Int32)))) fun (v3 : Int32) =>
          m_takesNumber_L20 u1 u2 n (upd I 14 v3) A (x3 + 1))) = some (I9, A9, y3) := hf
    refine lv_aload_n hx hb dX3_takesNumber_20 rfl (lv_at hl 0 rfl) ?_
    refine lv_aload_n hx hb dX3_takesNumber_21 rfl (lv_at hl 0 rfl) ?_
    refine g_get (v := .int (I 11)) hx hb hts hown hK hW mO in_X3 rfl 11 (by decide) q1223 rfl rfl dX3_takesNumber_22 ?_
    refine lv_iload_n hx hb dX3_takesNumber_25 rfl (lv_at hl 3 rfl) ?_
    refine lv_iadd hx hb dX3_takesNumber_26 ?_
    obtain ⟨v1, h1, hf⟩ := ob1_e hf
    refine g_vR (ov := some (.int v1)) (D := D) (Sc := mS) (adc := ad) (Ic := I) (Ac := A) (Rc := nR) (Gc := nG) (As := [.int ((I 11) + x3)]) (rest := []) (b := ad 99) (C := RX3) ⟨hx, hb, hml, hown, hts⟩ (m_isFigure_met l D ad I A ((I 11) + x3) v1 h1) (g_cwV 1 hts (lw_V q1361 q1363 qs42 q82 q1364) rfl rfl m_isFigure_ds ⟨Nat.le_trans (Nat.le_of_ble_eq_true rfl) hRf, Nat.le_trans (Nat.le_of_ble_eq_true rfl) hRl⟩) (g_recv hK hW mO rfl) hK hW hcs rfl hl.1 rfl (Nat.le_of_ble_eq_true rfl) dX3_takesNumber_27 ?_
    refine lv_if_eq (tgt := 76) hx hb dX3_takesNumber_30 (by decide) (fun c2 => ?_) (fun c2 => ?_)
    · rw [if_pos c2] at hf
      obtain ⟨rfl, rfl, rfl⟩ := so3 hf
      exact KX _ _ ls hW hS (lv_sub hl [0, 1, 2, 3] rfl)
    · rw [if_neg c2] at hf
      refine lv_aload_n hx hb dX3_takesNumber_33 rfl (lv_at hl 0 rfl) ?_
      refine lv_iload_n hx hb dX3_takesNumber_34 rfl (lv_at hl 3 rfl) ?_
      refine lv_iconst (v := 2) hx hb dX3_takesNumber_35 (by decide) ?_
      obtain ⟨v3, hm3, hf⟩ := ob1_e hf
      refine w_cutL (nL := 4) (L := [(0, .ref (ad 99)), (1, .int u1), (2, .int u2), (3, .int x3)]) (pcj := 67) (st := [.int v3, .ref (ad 99)]) (fun ls hl => ?_) (fun K3 => ?_)
      · refine g_putI hx hb hts hown hK mwf hI hA hW hS mO in_X3 tyX3 tyX3_ok nmX3 rfl 14 14 (by decide) rfl q1226 rfl rfl (by decide +kernel) dX3_takesNumber_67 (fun H locs hW hS => ?_)
        refine lv_iinc (v := x3 + 1) (lv' := [(3, .int (x3 + 1)), (0, .ref (ad 99)), (1, .int u1), (2, .int u2)]) hx hb dX3_takesNumber_70 hl (k := 3) rfl (by rfl) (by decide) rfl (fun ls hl => ?_)
        refine lv_goto (tgt := 20) hx hb dX3_takesNumber_73 (by decide) ?_
        exact ih (upd I 14 v3) A (x3 + 1) _ _ ls hf hW hS (lv_sub hl [1, 2, 3, 0] rfl)
      · refine lv_icmp_ge (tgt := 63) hx hb dX3_takesNumber_36 (by decide) (fun c4 => ?_) (fun c4 => ?_)
        · rw [if_pos c4] at hm3
          refine lv_aload_n hx hb dX3_takesNumber_63 rfl (lv_at hl 0 rfl) ?_
          refine g_get (v := .int (I 14)) hx hb hts hown hK hW mO in_X3 rfl 14 (by decide) q1226 rfl rfl dX3_takesNumber_64 ?_
          obtain rfl := so1 hm3
          exact K3 ls (lv_sub hl [0, 1, 2, 3] rfl)
        · rw [if_neg c4] at hm3
          refine lv_bipush (v := 10) hx hb dX3_takesNumber_39 (by decide) ?_
          refine lv_aload_n hx hb dX3_takesNumber_41 rfl (lv_at hl 0 rfl) ?_
          refine g_get (v := .int (I 14)) hx hb hts hown hK hW mO in_X3 rfl 14 (by decide) q1226 rfl rfl dX3_takesNumber_42 ?_
          refine lv_imul hx hb dX3_takesNumber_45 ?_
          refine lv_aload_n hx hb dX3_takesNumber_46 rfl (lv_at hl 0 rfl) ?_
          refine lv_aload_n hx hb dX3_takesNumber_47 rfl (lv_at hl 0 rfl) ?_
          refine g_get (v := .int (I 11)) hx hb hts hown hK hW mO in_X3 rfl 11 (by decide) q1223 rfl rfl dX3_takesNumber_48 ?_
          refine lv_iload_n hx hb dX3_takesNumber_51 rfl (lv_at hl 3 rfl) ?_
          refine lv_iadd hx hb dX3_takesNumber_52 ?_
          obtain ⟨v5, h5, hm3⟩ := ob1_e hm3
          refine g_vR (ov := some (.int v5)) (D := D) (Sc := mS) (adc := ad) (Ic := I) (Ac := A) (Rc := nR) (Gc := nG) (As := [.int ((I 11) + x3)]) (rest := [.int (10 * (I 14)), .ref (ad 99)]) (b := ad 99) (C := RX3) ⟨hx, hb, hml, hown, hts⟩ (m_byteAt_met l D ad I A ((I 11) + x3) v5 h5) (g_cwV 1 hts (lw_V q1349 q1351 qs39 q82 q1352) rfl rfl m_byteAt_ds ⟨Nat.le_trans (Nat.le_of_ble_eq_true rfl) hRf, Nat.le_trans (Nat.le_of_ble_eq_true rfl) hRl⟩) (g_recv hK hW mO rfl) hK hW hcs rfl hl.1 rfl (Nat.le_of_ble_eq_true rfl) dX3_takesNumber_53 ?_
          refine lv_iadd hx hb dX3_takesNumber_56 ?_
          refine lv_bipush (v := 48) hx hb dX3_takesNumber_57 (by decide) ?_
          refine lv_isub hx hb dX3_takesNumber_59 ?_
          refine lv_goto (tgt := 67) hx hb dX3_takesNumber_60 (by decide) ?_
          obtain rfl := so1 hm3
          exact K3 ls (lv_sub hl [0, 1, 2, 3] rfl)
def m_takesNumber (I : Nat → Int32) (A : Nat → Nat → Int32) (a0 : Int32) (a1 : Int32) : Option (Int32 × (Nat → Int32) × (Nat → Nat → Int32)) :=
  ob3 (m_takesNumber_L20 a0 a1 NF (upd (upd (upd I 12 (I 11)) 13 1) 14 0) A 0) fun (I1 : Nat → Int32) (A2 : Nat → Nat → Int32) (v3 : Int32) =>
  if v3 = 0 then (ob1 (zO 0) fun (v5 : Int32) =>
    some (v5, I1, A2)) else (if v3 ≤ 2 then (ob1 (m_in (((upd (upd I1 11 ((I1 11) + v3)) 13 2) 14).toInt64) a0.toInt64 a1.toInt64) fun (v7 : Int32) =>
      ob1 (zO v7) fun (v8 : Int32) =>
      some (v8, upd (upd I1 11 ((I1 11) + v3)) 13 2, A2)) else (ob1 (zO 0) fun (v9 : Int32) =>
      some (v9, I1, A2)))
set_option maxRecDepth 100000 in
set_option maxHeartbeats 4000000 in
theorem m_takesNumber_met (l : Launch) (D : dd_) (ad : Nat → Nat) (hI : Inj mS ad) (I : Nat → Int32) (A : Nat → Nat → Int32) (a0 : Int32) (a1 : Int32) (r : Int32) (I1 : (Nat → Int32)) (A1 : (Nat → Nat → Int32)) (hf : m_takesNumber I A a0 a1 = some (r, I1, A1)) : Met l yX3_takesNumber (ws_ yX3_takesNumber cX3_takesNumber 4 (some .boolean)) ({ frames := 3, cells := 0, slots := 0, locals := 62 }) (PcW D mS ad I A nR nG [.ref (ad 99), .int a0, .int a1]) (QcW D mS ad I1 A1 nR nG (some (.int r))) 0 0 (frS mS ad) := by
  refine Met.ofW (cc := cX3_takesNumber) (maxL := 4) (ret := (some .boolean)) (by decide) rfl ?_
  intro p e s m args below meth c s₁ B hml hv
  obtain ⟨rfl, hK, hW⟩ := hv
  have hx := B.exec
  have hb := B.bytes
  have hr := B.returns
  have hts := atoms_spec (ws := (ws_ yX3_takesNumber cX3_takesNumber 4 (some .boolean))) B.pre
  have hts : ∀ w ∈ lw_all, w.before _ s = true := fun w h => hts w (List.mem_cons_of_mem _ h)
  have hown : s.vm.findClass RX3 = some m.cls := findClass_of_methodNamed B.named
  have hlocks := B.notSynchronized
  have hRf : 3 ≤ (headSpec (ws_ yX3_takesNumber cX3_takesNumber 4 (some .boolean)) ({ frames := 3, cells := 0, slots := 0, locals := 62 })).room.frames := Nat.le_refl _
  have hRl : 62 ≤ (headSpec (ws_ yX3_takesNumber cX3_takesNumber 4 (some .boolean)) ({ frames := 3, cells := 0, slots := 0, locals := 62 })).room.locals := Nat.le_refl _
  have hcs : 0 ≤ (headSpec (ws_ yX3_takesNumber cX3_takesNumber 4 (some .boolean)) ({ frames := 3, cells := 0, slots := 0, locals := 62 })).room.cells ∧ 0 ≤ (headSpec (ws_ yX3_takesNumber cX3_takesNumber 4 (some .boolean)) ({ frames := 3, cells := 0, slots := 0, locals := 62 })).room.slots := ⟨Nat.zero_le _, Nat.zero_le _⟩
  have hA : ∀ i ∈ idxS mS, frS mS ad (ad i) := fun i hi => ⟨i, hi, rfl⟩
  have hS : va_S (frS mS ad) s.heap s.heap [] := va_S.rf
  have hl := lv_entry ([.ref (ad 99), .int a0, .int a1]) (n := 4) (Nat.le_of_ble_eq_true rfl)
  rw [lg_entry_eq]
  generalize (lg_sl ([.ref (ad 99), .int a0, .int a1]) ++ List.replicate (4 - (lg_sl ([.ref (ad 99), .int a0, .int a1])).length) Slot.unset).toArray = ls at hl ⊢
  have hl : lv_has ls 4 [(0, .ref (ad 99)), (1, .int a0), (2, .int a1)] := hl
  have hf : (ob3 (m_takesNumber_L20 a0 a1 NF (upd (upd (upd I 12 (I 11)) 13 1) 14 0) A 0) fun (I1 : Nat → Int32) (A2 : Nat → Nat → Int32) (v3 : Int32) =>
    if v3 = 0 then (ob1 (zO 0) fun (v5 : Int32) =>
      some (v5, I1, A2)) else (if v3 ≤ 2 then (ob1 (m_in (((upd (upd I1 11 ((I1 11) + v3)) 13 2) 14).toInt64) a0.toInt64 a1.toInt64) fun (v7 : Int32) =>
        ob1 (zO v7) fun (v8 : Int32) =>
        some (v8, upd (upd I1 11 ((I1 11) + v3)) 13 2, A2)) else (ob1 (zO 0) fun (v9 : Int32) =>
        some (v9, I1, A2)))) = some (r, I1, A1) := hf
  refine lv_aload_n hx hb dX3_takesNumber_0 rfl (lv_at hl 0 rfl) ?_
  refine lv_aload_n hx hb dX3_takesNumber_1 rfl (lv_at hl 0 rfl) ?_
  refine g_get (v := .int (I 11)) hx hb hts hown hK hW mO in_X3 rfl 11 (by decide) q1223 rfl rfl dX3_takesNumber_2 ?_
  refine g_putI hx hb hts hown hK mwf hI hA hW hS mO in_X3 tyX3 tyX3_ok nmX3 rfl 12 12 (by decide) rfl q1224 rfl rfl (by decide +kernel) dX3_takesNumber_5 (fun H locs hW hS => ?_)
  refine lv_aload_n hx hb dX3_takesNumber_8 rfl (lv_at hl 0 rfl) ?_
  refine lv_iconst (v := 1) hx hb dX3_takesNumber_9 (by decide) ?_
  refine g_putI hx hb hts hown hK mwf hI hA hW hS mO in_X3 tyX3 tyX3_ok nmX3 rfl 13 13 (by decide) rfl q1225 rfl rfl (by decide +kernel) dX3_takesNumber_10 (fun H locs hW hS => ?_)
  refine lv_iconst (v := 0) hx hb dX3_takesNumber_13 (by decide) ?_
  refine lv_istore_n (lv' := [(3, .int 0), (0, .ref (ad 99)), (1, .int a0), (2, .int a1)]) hx hb dX3_takesNumber_14 rfl hl (by decide) rfl (fun ls hl => ?_)
  refine lv_aload_n hx hb dX3_takesNumber_15 rfl (lv_at hl 1 rfl) ?_
  refine lv_iconst (v := 0) hx hb dX3_takesNumber_16 (by decide) ?_
  refine g_putI hx hb hts hown hK mwf hI hA hW hS mO in_X3 tyX3 tyX3_ok nmX3 rfl 14 14 (by decide) rfl q1226 rfl rfl (by decide +kernel) dX3_takesNumber_17 (fun H locs hW hS => ?_)
  obtain ⟨I1, A2, v3, hq3, hf⟩ := ob3_e hf
  refine m_takesNumber_L20_w hx hb hml hown hts hK hRf hRl hcs hI a0 a1 I1 A2 v3 (fun H locs ls hW hS hl => ?_) NF (upd (upd (upd I 12 (I 11)) 13 1) 14 0) A 0 _ _ ls hq3 hW hS (lv_sub hl [1, 2, 3, 0] rfl)
  refine lv_iload_n hx hb dX3_takesNumber_76 rfl (lv_at hl 3 rfl) ?_
  refine lv_if_eq (tgt := 85) hx hb dX3_takesNumber_77 (by decide) (fun c4 => ?_) (fun c4 => ?_)
  · rw [if_pos c4] at hf
    refine lv_iconst (v := 0) hx hb dX3_takesNumber_85 (by decide) ?_
    obtain ⟨v5, hv5, hf⟩ := ob1_e hf
    obtain ⟨hz, rfl⟩ := zO_e hv5
    obtain ⟨rfl, rfl, rfl⟩ := so3 hf
    exact W.zret hx hb hr (nar_z hz) (fun t ht _ => ⟨rfl, by rw [ht]; exact hW, hS.F ht⟩) hS.2.2 dX3_takesNumber_86
  · rw [if_neg c4] at hf
    refine lv_iload_n hx hb dX3_takesNumber_80 rfl (lv_at hl 3 rfl) ?_
    refine lv_iconst (v := 2) hx hb dX3_takesNumber_81 (by decide) ?_
    refine lv_icmp_le (tgt := 87) hx hb dX3_takesNumber_82 (by decide) (fun c6 => ?_) (fun c6 => ?_)
    · rw [if_pos c6] at hf
      refine lv_aload_n hx hb dX3_takesNumber_87 rfl (lv_at hl 0 rfl) ?_
      refine lv_dup hx hb dX3_takesNumber_88 rfl ?_
      refine g_get (v := .int (I1 11)) hx hb hts hown hK hW mO in_X3 rfl 11 (by decide) q1223 rfl rfl dX3_takesNumber_89 ?_
      refine lv_iload_n hx hb dX3_takesNumber_92 rfl (lv_at hl 3 rfl) ?_
      refine lv_iadd hx hb dX3_takesNumber_93 ?_
      refine g_putI hx hb hts hown hK mwf hI hA hW hS mO in_X3 tyX3 tyX3_ok nmX3 rfl 11 11 (by decide) rfl q1223 rfl rfl (by decide +kernel) dX3_takesNumber_94 (fun H locs hW hS => ?_)
      refine lv_aload_n hx hb dX3_takesNumber_97 rfl (lv_at hl 0 rfl) ?_
      refine lv_iconst (v := 2) hx hb dX3_takesNumber_98 (by decide) ?_
      refine g_putI hx hb hts hown hK mwf hI hA hW hS mO in_X3 tyX3 tyX3_ok nmX3 rfl 13 13 (by decide) rfl q1225 rfl rfl (by decide +kernel) dX3_takesNumber_99 (fun H locs hW hS => ?_)
      refine lv_aload_n hx hb dX3_takesNumber_102 rfl (lv_at hl 0 rfl) ?_
      refine g_get (v := .int ((upd (upd I1 11 ((I1 11) + v3)) 13 2) 14)) hx hb hts hown hK hW mO in_X3 rfl 14 (by decide) q1226 rfl rfl dX3_takesNumber_103 ?_
      refine lv_i2l (v := ((upd (upd I1 11 ((I1 11) + v3)) 13 2) 14).toInt64) hx hb dX3_takesNumber_106 rfl ?_
      refine lv_iload_n hx hb dX3_takesNumber_107 rfl (lv_at hl 1 rfl) ?_
      refine lv_i2l (v := a0.toInt64) hx hb dX3_takesNumber_108 rfl ?_
      refine lv_iload_n hx hb dX3_takesNumber_109 rfl (lv_at hl 2 rfl) ?_
      refine lv_i2l (v := a1.toInt64) hx hb dX3_takesNumber_110 rfl ?_
      obtain ⟨v7, h7, hf⟩ := ob1_e hf
      refine g_sR (ov := some (.int v7)) (D := D) (Sc := nS) (adc := ad) (Ic := (fun _ => 0)) (Ac := (fun _ _ => 0)) (Rc := nR) (Gc := nG) (As := [.long (((upd (upd I1 11 ((I1 11) + v3)) 13 2) 14).toInt64), .long a0.toInt64, .long a1.toInt64]) (rest := []) ⟨hx, hb, hml, hown, hts⟩ (m_in_met l D ad (((upd (upd I1 11 ((I1 11) + v3)) 13 2) 14).toInt64) a0.toInt64 a1.toInt64 v7 h7) (va_cwS 3 hts (lw_S q1294 q1295 q82 q1296) rfl rfl rfl m_in_ds.2 ⟨Nat.le_trans (Nat.le_of_ble_eq_true rfl) hRf, Nat.le_trans (Nat.le_of_ble_eq_true rfl) hRl⟩) hK WH_nil hcs rfl hl.1 rfl (Nat.le_of_ble_eq_true rfl) dX3_takesNumber_111 ?_
      obtain ⟨v8, hv8, hf⟩ := ob1_e hf
      obtain ⟨hz, rfl⟩ := zO_e hv8
      obtain ⟨rfl, rfl, rfl⟩ := so3 hf
      exact W.zret hx hb hr (nar_z hz) (fun t ht _ => ⟨rfl, by rw [ht]; exact hW, hS.F ht⟩) hS.2.2 dX3_takesNumber_114
    · rw [if_neg c6] at hf
      refine lv_iconst (v := 0) hx hb dX3_takesNumber_85 (by decide) ?_
      obtain ⟨v9, hv9, hf⟩ := ob1_e hf
      obtain ⟨hz, rfl⟩ := zO_e hv9
      obtain ⟨rfl, rfl, rfl⟩ := so3 hf
      exact W.zret hx hb hr (nar_z hz) (fun t ht _ => ⟨rfl, by rw [ht]; exact hW, hS.F ht⟩) hS.2.2 dX3_takesNumber_86
theorem m_takesNumber_ds : yX3_takesNumber.cls = RX3 ∧ yX3_takesNumber.cls ≠ "java/lang/invoke/MethodHandle" ∧ yX3_takesNumber.cls ≠ "java/lang/invoke/VarHandle" ∧ (parseMethodDescriptor yX3_takesNumber.desc).map (fun d => d.parameters.length) = some 2 := by decide +kernel
/-! reads -/
def m_reads (I : Nat → Int32) (A : Nat → Nat → Int32) (a0 : Int32) (a1 : Int32) (a2 : Int32) (a3 : Int32) : Option (Int32 × (Nat → Int32) × (Nat → Nat → Int32)) :=
  ob3 (m_takesNumber I A a1 a2) fun (v1 : Int32) (I2 : Nat → Int32) (A3 : Nat → Nat → Int32) =>
  if v1 = 0 then (ob1 (zO 0) fun (v10 : Int32) =>
    some (v10, I2, A3)) else (ob1 (stO (A3 0) 2044 (219 + a0) (I2 14)) fun (f5 : Nat → Int32) =>
    ob3 (m_takes I2 (va_up A3 0 f5) a3) fun (v6 : Int32) (I7 : Nat → Int32) (A8 : Nat → Nat → Int32) =>
    ob1 (zO v6) fun (v9 : Int32) =>
    some (v9, I7, A8))
set_option maxRecDepth 100000 in
set_option maxHeartbeats 4000000 in
theorem m_reads_met (l : Launch) (D : dd_) (ad : Nat → Nat) (hI : Inj mS ad) (I : Nat → Int32) (A : Nat → Nat → Int32) (a0 : Int32) (a1 : Int32) (a2 : Int32) (a3 : Int32) (r : Int32) (I1 : (Nat → Int32)) (A1 : (Nat → Nat → Int32)) (hf : m_reads I A a0 a1 a2 a3 = some (r, I1, A1)) : Met l yX3_reads (ws_ yX3_reads cX3_reads 5 (some .boolean)) ({ frames := 4, cells := 0, slots := 0, locals := 85 }) (PcW D mS ad I A nR nG [.ref (ad 99), .int a0, .int a1, .int a2, .int a3]) (QcW D mS ad I1 A1 nR nG (some (.int r))) 0 0 (frS mS ad) := by
  refine Met.ofW (cc := cX3_reads) (maxL := 5) (ret := (some .boolean)) (by decide) rfl ?_
  intro p e s m args below meth c s₁ B hml hv
  obtain ⟨rfl, hK, hW⟩ := hv
  have hx := B.exec
  have hb := B.bytes
  have hr := B.returns
  have hts := atoms_spec (ws := (ws_ yX3_reads cX3_reads 5 (some .boolean))) B.pre
  have hts : ∀ w ∈ lw_all, w.before _ s = true := fun w h => hts w (List.mem_cons_of_mem _ h)
  have hown : s.vm.findClass RX3 = some m.cls := findClass_of_methodNamed B.named
  have hlocks := B.notSynchronized
  have hRf : 4 ≤ (headSpec (ws_ yX3_reads cX3_reads 5 (some .boolean)) ({ frames := 4, cells := 0, slots := 0, locals := 85 })).room.frames := Nat.le_refl _
  have hRl : 85 ≤ (headSpec (ws_ yX3_reads cX3_reads 5 (some .boolean)) ({ frames := 4, cells := 0, slots := 0, locals := 85 })).room.locals := Nat.le_refl _
  have hcs : 0 ≤ (headSpec (ws_ yX3_reads cX3_reads 5 (some .boolean)) ({ frames := 4, cells := 0, slots := 0, locals := 85 })).room.cells ∧ 0 ≤ (headSpec (ws_ yX3_reads cX3_reads 5 (some .boolean)) ({ frames := 4, cells := 0, slots := 0, locals := 85 })).room.slots := ⟨Nat.zero_le _, Nat.zero_le _⟩
  have hA : ∀ i ∈ idxS mS, frS mS ad (ad i) := fun i hi => ⟨i, hi, rfl⟩
  have hS : va_S (frS mS ad) s.heap s.heap [] := va_S.rf
  have hl := lv_entry ([.ref (ad 99), .int a0, .int a1, .int a2, .int a3]) (n := 5) (Nat.le_of_ble_eq_true rfl)
  rw [lg_entry_eq]
  generalize (lg_sl ([.ref (ad 99), .int a0, .int a1, .int a2, .int a3]) ++ List.replicate (5 - (lg_sl ([.ref (ad 99), .int a0, .int a1, .int a2, .int a3])).length) Slot.unset).toArray = ls at hl ⊢
  have hl : lv_has ls 5 [(0, .ref (ad 99)), (1, .int a0), (2, .int a1), (3, .int a2), (4, .int a3)] := hl
  have hf : (ob3 (m_takesNumber I A a1 a2) fun (v1 : Int32) (I2 : Nat → Int32) (A3 : Nat → Nat → Int32) =>
    if v1 = 0 then (ob1 (zO 0) fun (v10 : Int32) =>
      some (v10, I2, A3)) else (ob1 (stO (A3 0) 2044 (219 + a0) (I2 14)) fun (f5 : Nat → Int32) =>
      ob3 (m_takes I2 (va_up A3 0 f5) a3) fun (v6 : Int32) (I7 : Nat → Int32) (A8 : Nat → Nat → Int32) =>
      ob1 (zO v6) fun (v9 : Int32) =>
      some (v9, I7, A8))) = some (r, I1, A1) := hf
  refine lv_aload_n hx hb dX3_reads_0 rfl (lv_at hl 0 rfl) ?_
  refine lv_iload_n hx hb dX3_reads_1 rfl (lv_at hl 2 rfl) ?_
  refine lv_iload_n hx hb dX3_reads_2 rfl (lv_at hl 3 rfl) ?_
  obtain ⟨v1, I2, A3, h3, hf⟩ := ob3_e hf
  refine g_vW (ov := some (.int v1)) (D := D) (Sc := mS) (adc := ad) (Ic := I) (Ac := A) (Rc := nR) (Gc := nG) (As := [.int a1, .int a2]) (rest := []) (Ic1 := I2) (Ac1 := A3) (Rc1 := nR) (Gc1 := nG) (b := ad 99) (C := RX3) ⟨hx, hb, hml, hown, hts⟩ (m_takesNumber_met l D ad hI I A a1 a2 v1 I2 A3 h3) (g_cwV 2 hts (lw_V q1357 q1359 qs41 q82 q1360) rfl rfl m_takesNumber_ds ⟨Nat.le_trans (Nat.le_of_ble_eq_true rfl) hRf, Nat.le_trans (Nat.le_of_ble_eq_true rfl) hRl⟩) (g_recv hK hW mO rfl) hK hW hS hA hcs rfl hl.1 rfl (Nat.le_of_ble_eq_true rfl) dX3_reads_3 (fun H locs hW _ hS => ?_)
  refine lv_if_ne (tgt := 11) hx hb dX3_reads_6 (by decide) (fun c4 => ?_) (fun c4 => ?_)
  · rw [if_neg c4] at hf
    refine lv_aload_n hx hb dX3_reads_11 rfl (lv_at hl 0 rfl) ?_
    refine g_get (v := .ref (ad 0)) hx hb hts hown hK hW mO in_X3 rfl 0 (by decide) q1212 rfl rfl dX3_reads_12 ?_
    refine lv_sipush (v := 219) hx hb dX3_reads_15 (by decide) ?_
    refine lv_iload_n hx hb dX3_reads_18 rfl (lv_at hl 1 rfl) ?_
    refine lv_iadd hx hb dX3_reads_19 ?_
    refine lv_aload_n hx hb dX3_reads_20 rfl (lv_at hl 0 rfl) ?_
    refine g_get (v := .int (I2 14)) hx hb hts hown hK hW mO in_X3 rfl 14 (by decide) q1226 rfl rfl dX3_reads_21 ?_
    obtain ⟨f5, hf5, hf⟩ := ob1_e hf
    refine g_iast hx hb hK mwf hI hA hW hS mA0 hf5 dX3_reads_24 (fun H locs hW hS => ?_)
    refine lv_aload_n hx hb dX3_reads_25 rfl (lv_at hl 0 rfl) ?_
    refine lv_iload hx hb dX3_reads_26 (lv_at hl 4 rfl) ?_
    obtain ⟨v6, I7, A8, h8, hf⟩ := ob3_e hf
    refine g_vW (ov := some (.int v6)) (D := D) (Sc := mS) (adc := ad) (Ic := I2) (Ac := (va_up A3 0 f5)) (Rc := nR) (Gc := nG) (As := [.int a3]) (rest := []) (Ic1 := I7) (Ac1 := A8) (Rc1 := nR) (Gc1 := nG) (b := ad 99) (C := RX3) ⟨hx, hb, hml, hown, hts⟩ (m_takes_met l D ad hI I2 (va_up A3 0 f5) a3 v6 I7 A8 h8) (g_cwV 1 hts (lw_V q1345 q1347 qs38 q82 q1348) rfl rfl m_takes_ds ⟨Nat.le_trans (Nat.le_of_ble_eq_true rfl) hRf, Nat.le_trans (Nat.le_of_ble_eq_true rfl) hRl⟩) (g_recv hK hW mO rfl) hK hW hS hA hcs rfl hl.1 rfl (Nat.le_of_ble_eq_true rfl) dX3_reads_28 (fun H locs hW _ hS => ?_)
    obtain ⟨v9, hv9, hf⟩ := ob1_e hf
    obtain ⟨hz, rfl⟩ := zO_e hv9
    obtain ⟨rfl, rfl, rfl⟩ := so3 hf
    exact W.zret hx hb hr (nar_z hz) (fun t ht _ => ⟨rfl, by rw [ht]; exact hW, hS.F ht⟩) hS.2.2 dX3_reads_31
  · rw [if_pos c4] at hf
    refine lv_iconst (v := 0) hx hb dX3_reads_9 (by decide) ?_
    obtain ⟨v10, hv10, hf⟩ := ob1_e hf
    obtain ⟨hz, rfl⟩ := zO_e hv10
    obtain ⟨rfl, rfl, rfl⟩ := so3 hf
    exact W.zret hx hb hr (nar_z hz) (fun t ht _ => ⟨rfl, by rw [ht]; exact hW, hS.F ht⟩) hS.2.2 dX3_reads_10
theorem m_reads_ds : yX3_reads.cls = RX3 ∧ yX3_reads.cls ≠ "java/lang/invoke/MethodHandle" ∧ yX3_reads.cls ≠ "java/lang/invoke/VarHandle" ∧ (parseMethodDescriptor yX3_reads.desc).map (fun d => d.parameters.length) = some 4 := by decide +kernel
/-! takesLaw -/
def m_takesLaw_L9 : Nat → (Nat → Int32) → (Nat → Nat → Int32) → Int32 → Int32 → Option ((Nat → Int32) × (Nat → Nat → Int32) × Int32 × Int32)
  | 0, _, _, _, _ => none
  | n + 1, I, A, x1, x2 =>
    if 6 ≤ x2 then (some (I, A, x1, x2)) else (if x1 = 0 then (some (I, A, x1, x2)) else (ob1 (if 5 ≤ x2 then ((some 59 : Option (Int32))) else ((some 44 : Option (Int32)))) fun (v3 : Int32) =>
        ob3 (m_reads I A (0 + x2) 0 20 v3) fun (v5 : Int32) (I6 : Nat → Int32) (A7 : Nat → Nat → Int32) =>
        m_takesLaw_L9 n I6 A7 v5 (x2 + 1)))
set_option maxRecDepth 100000 in
set_option maxHeartbeats 4000000 in
theorem m_takesLaw_L9_w {p : Program} {l : Launch} {e : Env} {R0 : Room} {s : State} {m : MethodId} {args : Array Value} {below : List Frame} {meth : Method} {c : Code} {cells slots : Nat} {Q : State → Prop} {D : dd_} {ad : Nat → Nat} (hx : p.tables.exec = Jvm.exec) (hb : c.code = cX3_takesLaw) (hml : c.maxLocals = 3) (hown : s.vm.findClass RX3 = some m.cls) (hts : ∀ w ∈ lw_all, w.before args s = true) (hK : Kx D s) (hRf : 5 ≤ R0.frames) (hRl : 109 ≤ R0.locals) (hcs : cells ≤ R0.cells ∧ slots ≤ R0.slots) (hI : Inj mS ad) (I9 : (Nat → Int32)) (A9 : (Nat → Nat → Int32)) (y1 : Int32) (y2 : Int32) (KX : ∀ (H : Heap) (locs : List Loc) (ls : Array Slot), WH D mS ad I9 A9 nR nG H → va_S (frS mS ad) s.heap H locs → lv_has ls 3 [(1, .int y1)] → W p l e R0 s m args below meth c H locs cells slots Q (F0 m 48 ls [])) : ∀ (n : Nat) (I : (Nat → Int32)) (A : (Nat → Nat → Int32)) (x1 : Int32) (x2 : Int32) (H : Heap) (locs : List Loc) (ls : Array Slot), m_takesLaw_L9 n I A x1 x2 = some (I9, A9, y1, y2) → WH D mS ad I A nR nG H → va_S (frS mS ad) s.heap H locs → lv_has ls 3 [(0, .ref (ad 99)), (1, .int x1), (2, .int x2)] → W p l e R0 s m args below meth c H locs cells slots Q (F0 m 9 ls []) := by
  intro n
  have hA : ∀ i ∈ idxS mS, frS mS ad (ad i) := fun i hi => ⟨i, hi, rfl⟩
  induction n with
  | zero =>
    intro I A x1 x2 H locs ls hf
    exact nomatch (show (none : Option ((Nat → Int32) × (Nat → Nat → Int32) × Int32 × Int32)) = some (I9, A9, y1, y2) from hf)
  | succ n ih =>
    intro I A x1 x2 H locs ls hf hW hS hl
    have hf : (if 6 ≤ x2 then (some (I, A, x1, x2)) else (if x1 = 0 then (some (I, A, x1, x2)) else (ob1 (if 5 ≤ x2 then ((some 59 : Option (Int32))) else ((some 44 : Option (Int32)))) fun (v3 : Int32) =>
            ob3 (m_reads I A (0 + x2) 0 20 v3) fun (v5 : Int32) (I6 : Nat → Int32) (A7 : Nat → Nat → Int32) =>
            m_takesLaw_L9 n I6 A7 v5 (x2 + 1)))) = some (I9, A9, y1, y2) := hf
    refine lv_iload_n hx hb dX3_takesLaw_9 rfl (lv_at hl 2 rfl) ?_
    refine lv_bipush (v := 6) hx hb dX3_takesLaw_10 (by decide) ?_
    refine lv_icmp_ge (tgt := 48) hx hb dX3_takesLaw_12 (by decide) (fun c1 => ?_) (fun c1 => ?_)
    · rw [if_pos c1] at hf
      obtain ⟨rfl, rfl, rfl, rfl⟩ := so4 hf
      exact KX _ _ ls hW hS (lv_sub hl [1] rfl)
    · rw [if_neg c1] at hf
      refine lv_iload_n hx hb dX3_takesLaw_15 rfl (lv_at hl 1 rfl) ?_
      refine lv_if_eq (tgt := 48) hx hb dX3_takesLaw_16 (by decide) (fun c2 => ?_) (fun c2 => ?_)
      · rw [if_pos c2] at hf
        obtain ⟨rfl, rfl, rfl, rfl⟩ := so4 hf
        exact KX _ _ ls hW hS (lv_sub hl [1] rfl)
      · rw [if_neg c2] at hf
        refine lv_aload_n hx hb dX3_takesLaw_19 rfl (lv_at hl 0 rfl) ?_
        refine lv_iconst (v := 0) hx hb dX3_takesLaw_20 (by decide) ?_
        refine lv_iload_n hx hb dX3_takesLaw_21 rfl (lv_at hl 2 rfl) ?_
        refine lv_iadd hx hb dX3_takesLaw_22 ?_
        refine lv_iconst (v := 0) hx hb dX3_takesLaw_23 (by decide) ?_
        refine lv_bipush (v := 20) hx hb dX3_takesLaw_24 (by decide) ?_
        refine lv_iload_n hx hb dX3_takesLaw_26 rfl (lv_at hl 2 rfl) ?_
        refine lv_iconst (v := 5) hx hb dX3_takesLaw_27 (by decide) ?_
        obtain ⟨v3, hm3, hf⟩ := ob1_e hf
        refine w_cutL (nL := 3) (L := [(0, .ref (ad 99)), (2, .int x2)]) (pcj := 38) (st := [.int v3, .int 20, .int 0, .int (0 + x2), .ref (ad 99)]) (fun ls hl => ?_) (fun K3 => ?_)
        · obtain ⟨v5, I6, A7, h7, hf⟩ := ob3_e hf
          refine g_vW (ov := some (.int v5)) (D := D) (Sc := mS) (adc := ad) (Ic := I) (Ac := A) (Rc := nR) (Gc := nG) (As := [.int (0 + x2), .int 0, .int 20, .int v3]) (rest := []) (Ic1 := I6) (Ac1 := A7) (Rc1 := nR) (Gc1 := nG) (b := ad 99) (C := RX3) ⟨hx, hb, hml, hown, hts⟩ (m_reads_met l D ad hI I A (0 + x2) 0 20 v3 v5 I6 A7 h7) (g_cwV 4 hts (lw_V q1353 q1355 qs40 q82 q1356) rfl rfl m_reads_ds ⟨Nat.le_trans (Nat.le_of_ble_eq_true rfl) hRf, Nat.le_trans (Nat.le_of_ble_eq_true rfl) hRl⟩) (g_recv hK hW mO rfl) hK hW hS hA hcs rfl hl.1 rfl (Nat.le_of_ble_eq_true rfl) dX3_takesLaw_38 (fun H locs hW _ hS => ?_)
          refine lv_istore_n (lv' := [(1, .int v5), (0, .ref (ad 99)), (2, .int x2)]) hx hb dX3_takesLaw_41 rfl hl (by decide) rfl (fun ls hl => ?_)
          refine lv_iinc (v := x2 + 1) (lv' := [(2, .int (x2 + 1)), (1, .int v5), (0, .ref (ad 99))]) hx hb dX3_takesLaw_42 hl (k := 2) rfl (by rfl) (by decide) rfl (fun ls hl => ?_)
          refine lv_goto (tgt := 9) hx hb dX3_takesLaw_45 (by decide) ?_
          exact ih I6 A7 v5 (x2 + 1) _ _ ls hf hW hS (lv_sub hl [2, 1, 0] rfl)
        · refine lv_icmp_ge (tgt := 36) hx hb dX3_takesLaw_28 (by decide) (fun c4 => ?_) (fun c4 => ?_)
          · rw [if_pos c4] at hm3
            refine lv_bipush (v := 59) hx hb dX3_takesLaw_36 (by decide) ?_
            obtain rfl := so1 hm3
            exact K3 ls (lv_sub hl [0, 2] rfl)
          · rw [if_neg c4] at hm3
            refine lv_bipush (v := 44) hx hb dX3_takesLaw_31 (by decide) ?_
            refine lv_goto (tgt := 38) hx hb dX3_takesLaw_33 (by decide) ?_
            obtain rfl := so1 hm3
            exact K3 ls (lv_sub hl [0, 2] rfl)
def m_takesLaw (I : Nat → Int32) (A : Nat → Nat → Int32) : Option (Int32 × (Nat → Int32) × (Nat → Nat → Int32)) :=
  ob3 (m_takes I A 104) fun (v1 : Int32) (I2 : Nat → Int32) (A3 : Nat → Nat → Int32) =>
  ob4 (m_takesLaw_L9 NF I2 A3 v1 0) fun (I4 : Nat → Int32) (A5 : Nat → Nat → Int32) (v6 : Int32) (v7 : Int32) =>
  ob1 (zO v6) fun (v8 : Int32) =>
  some (v8, I4, A5)
set_option maxRecDepth 100000 in
set_option maxHeartbeats 4000000 in
theorem m_takesLaw_met (l : Launch) (D : dd_) (ad : Nat → Nat) (hI : Inj mS ad) (I : Nat → Int32) (A : Nat → Nat → Int32) (r : Int32) (I1 : (Nat → Int32)) (A1 : (Nat → Nat → Int32)) (hf : m_takesLaw I A  = some (r, I1, A1)) : Met l yX3_takesLaw (ws_ yX3_takesLaw cX3_takesLaw 3 (some .boolean)) ({ frames := 5, cells := 0, slots := 0, locals := 109 }) (PcW D mS ad I A nR nG [.ref (ad 99)]) (QcW D mS ad I1 A1 nR nG (some (.int r))) 0 0 (frS mS ad) := by
  refine Met.ofW (cc := cX3_takesLaw) (maxL := 3) (ret := (some .boolean)) (by decide) rfl ?_
  intro p e s m args below meth c s₁ B hml hv
  obtain ⟨rfl, hK, hW⟩ := hv
  have hx := B.exec
  have hb := B.bytes
  have hr := B.returns
  have hts := atoms_spec (ws := (ws_ yX3_takesLaw cX3_takesLaw 3 (some .boolean))) B.pre
  have hts : ∀ w ∈ lw_all, w.before _ s = true := fun w h => hts w (List.mem_cons_of_mem _ h)
  have hown : s.vm.findClass RX3 = some m.cls := findClass_of_methodNamed B.named
  have hlocks := B.notSynchronized
  have hRf : 5 ≤ (headSpec (ws_ yX3_takesLaw cX3_takesLaw 3 (some .boolean)) ({ frames := 5, cells := 0, slots := 0, locals := 109 })).room.frames := Nat.le_refl _
  have hRl : 109 ≤ (headSpec (ws_ yX3_takesLaw cX3_takesLaw 3 (some .boolean)) ({ frames := 5, cells := 0, slots := 0, locals := 109 })).room.locals := Nat.le_refl _
  have hcs : 0 ≤ (headSpec (ws_ yX3_takesLaw cX3_takesLaw 3 (some .boolean)) ({ frames := 5, cells := 0, slots := 0, locals := 109 })).room.cells ∧ 0 ≤ (headSpec (ws_ yX3_takesLaw cX3_takesLaw 3 (some .boolean)) ({ frames := 5, cells := 0, slots := 0, locals := 109 })).room.slots := ⟨Nat.zero_le _, Nat.zero_le _⟩
  have hA : ∀ i ∈ idxS mS, frS mS ad (ad i) := fun i hi => ⟨i, hi, rfl⟩
  have hS : va_S (frS mS ad) s.heap s.heap [] := va_S.rf
  have hl := lv_entry ([.ref (ad 99)]) (n := 3) (Nat.le_of_ble_eq_true rfl)
  rw [lg_entry_eq]
  generalize (lg_sl ([.ref (ad 99)]) ++ List.replicate (3 - (lg_sl ([.ref (ad 99)])).length) Slot.unset).toArray = ls at hl ⊢
  have hl : lv_has ls 3 [(0, .ref (ad 99))] := hl
  have hf : (ob3 (m_takes I A 104) fun (v1 : Int32) (I2 : Nat → Int32) (A3 : Nat → Nat → Int32) =>
    ob4 (m_takesLaw_L9 NF I2 A3 v1 0) fun (I4 : Nat → Int32) (A5 : Nat → Nat → Int32) (v6 : Int32) (v7 : Int32) =>
    ob1 (zO v6) fun (v8 : Int32) =>
    some (v8, I4, A5)) = some (r, I1, A1) := hf
  refine lv_aload_n hx hb dX3_takesLaw_0 rfl (lv_at hl 0 rfl) ?_
  refine lv_bipush (v := 104) hx hb dX3_takesLaw_1 (by decide) ?_
  obtain ⟨v1, I2, A3, h3, hf⟩ := ob3_e hf
  refine g_vW (ov := some (.int v1)) (D := D) (Sc := mS) (adc := ad) (Ic := I) (Ac := A) (Rc := nR) (Gc := nG) (As := [.int 104]) (rest := []) (Ic1 := I2) (Ac1 := A3) (Rc1 := nR) (Gc1 := nG) (b := ad 99) (C := RX3) ⟨hx, hb, hml, hown, hts⟩ (m_takes_met l D ad hI I A 104 v1 I2 A3 h3) (g_cwV 1 hts (lw_V q1345 q1347 qs38 q82 q1348) rfl rfl m_takes_ds ⟨Nat.le_trans (Nat.le_of_ble_eq_true rfl) hRf, Nat.le_trans (Nat.le_of_ble_eq_true rfl) hRl⟩) (g_recv hK hW mO rfl) hK hW hS hA hcs rfl hl.1 rfl (Nat.le_of_ble_eq_true rfl) dX3_takesLaw_3 (fun H locs hW _ hS => ?_)
  refine lv_istore_n (lv' := [(1, .int v1), (0, .ref (ad 99))]) hx hb dX3_takesLaw_6 rfl hl (by decide) rfl (fun ls hl => ?_)
  refine lv_iconst (v := 0) hx hb dX3_takesLaw_7 (by decide) ?_
  refine lv_istore_n (lv' := [(2, .int 0), (1, .int v1), (0, .ref (ad 99))]) hx hb dX3_takesLaw_8 rfl hl (by decide) rfl (fun ls hl => ?_)
  obtain ⟨I4, A5, v6, v7, hq7, hf⟩ := ob4_e hf
  refine m_takesLaw_L9_w hx hb hml hown hts hK hRf hRl hcs hI I4 A5 v6 v7 (fun H locs ls hW hS hl => ?_) NF I2 A3 v1 0 _ _ ls hq7 hW hS (lv_sub hl [2, 1, 0] rfl)
  refine lv_iload_n hx hb dX3_takesLaw_48 rfl (lv_at hl 0 rfl) ?_
  obtain ⟨v8, hv8, hf⟩ := ob1_e hf
  obtain ⟨hz, rfl⟩ := zO_e hv8
  obtain ⟨rfl, rfl, rfl⟩ := so3 hf
  exact W.zret hx hb hr (nar_z hz) (fun t ht _ => ⟨rfl, by rw [ht]; exact hW, hS.F ht⟩) hS.2.2 dX3_takesLaw_49
theorem m_takesLaw_ds : yX3_takesLaw.cls = RX3 ∧ yX3_takesLaw.cls ≠ "java/lang/invoke/MethodHandle" ∧ yX3_takesLaw.cls ≠ "java/lang/invoke/VarHandle" ∧ (parseMethodDescriptor yX3_takesLaw.desc).map (fun d => d.parameters.length) = some 0 := by decide +kernel
/-! sortOf -/
def m_sortOf (a0 : Int32) : Option (Int32) :=
  ob1 (if a0 = 103 then ((some 1 : Option (Int32))) else (if a0 = 99 then ((some 2 : Option (Int32))) else (if a0 = 118 then ((some 3 : Option (Int32))) else (if a0 = 107 then ((some 4 : Option (Int32))) else (if a0 = 108 then ((some 5 : Option (Int32))) else ((some 0 : Option (Int32)))))))) fun (v1 : Int32) =>
  some v1
set_option maxRecDepth 100000 in
set_option maxHeartbeats 4000000 in
theorem m_sortOf_met (l : Launch) (D : dd_) (ad : Nat → Nat) (a0 : Int32) (r : Int32) (hf : m_sortOf a0 = some r) : Met l yX3_sortOf (ws_ yX3_sortOf cX3_sortOf 1 (some .int)) ({ frames := 1, cells := 0, slots := 0, locals := 16 }) (PcW D nS ad (fun _ => 0) (fun _ _ => 0) nR nG [.int a0]) (QcR (some (.int r))) 0 0 (fun _ => False) := by
  refine Met.ofW (cc := cX3_sortOf) (maxL := 1) (ret := (some .int)) (by decide) rfl ?_
  intro p e s m args below meth c s₁ B hml hv
  obtain ⟨rfl, hK, hW⟩ := hv
  have hx := B.exec
  have hb := B.bytes
  have hr := B.returns
  have hts := atoms_spec (ws := (ws_ yX3_sortOf cX3_sortOf 1 (some .int))) B.pre
  have hts : ∀ w ∈ lw_all, w.before _ s = true := fun w h => hts w (List.mem_cons_of_mem _ h)
  have hown : s.vm.findClass RX3 = some m.cls := findClass_of_methodNamed B.named
  have hlocks := B.notSynchronized
  have hRf : 1 ≤ (headSpec (ws_ yX3_sortOf cX3_sortOf 1 (some .int)) ({ frames := 1, cells := 0, slots := 0, locals := 16 })).room.frames := Nat.le_refl _
  have hRl : 16 ≤ (headSpec (ws_ yX3_sortOf cX3_sortOf 1 (some .int)) ({ frames := 1, cells := 0, slots := 0, locals := 16 })).room.locals := Nat.le_refl _
  have hcs : 0 ≤ (headSpec (ws_ yX3_sortOf cX3_sortOf 1 (some .int)) ({ frames := 1, cells := 0, slots := 0, locals := 16 })).room.cells ∧ 0 ≤ (headSpec (ws_ yX3_sortOf cX3_sortOf 1 (some .int)) ({ frames := 1, cells := 0, slots := 0, locals := 16 })).room.slots := ⟨Nat.zero_le _, Nat.zero_le _⟩
  have hl := lv_entry ([.int a0]) (n := 1) (Nat.le_of_ble_eq_true rfl)
  rw [lg_entry_eq]
  generalize (lg_sl ([.int a0]) ++ List.replicate (1 - (lg_sl ([.int a0])).length) Slot.unset).toArray = ls at hl ⊢
  have hl : lv_has ls 1 [(0, .int a0)] := hl
  have hf : (ob1 (if a0 = 103 then ((some 1 : Option (Int32))) else (if a0 = 99 then ((some 2 : Option (Int32))) else (if a0 = 118 then ((some 3 : Option (Int32))) else (if a0 = 107 then ((some 4 : Option (Int32))) else (if a0 = 108 then ((some 5 : Option (Int32))) else ((some 0 : Option (Int32)))))))) fun (v1 : Int32) =>
    some v1) = some r := hf
  refine lv_iload_n hx hb dX3_sortOf_0 rfl (lv_at hl 0 rfl) ?_
  refine lv_bipush (v := 103) hx hb dX3_sortOf_1 (by decide) ?_
  obtain ⟨v1, hm1, hf⟩ := ob1_e hf
  refine w_cutL (nL := 1) (L := []) (pcj := 51) (st := [.int v1]) (fun ls hl => ?_) (fun K1 => ?_)
  · obtain rfl := so1 hf
    exact W.iret hx hb hr (fun t ht _ => ⟨rfl, ht⟩) (fun q hq => by cases hq) dX3_sortOf_51
  · refine lv_icmp_ne (tgt := 10) hx hb dX3_sortOf_3 (by decide) (fun c2 => ?_) (fun c2 => ?_)
    · rw [if_neg c2] at hm1
      refine lv_iload_n hx hb dX3_sortOf_10 rfl (lv_at hl 0 rfl) ?_
      refine lv_bipush (v := 99) hx hb dX3_sortOf_11 (by decide) ?_
      refine lv_icmp_ne (tgt := 20) hx hb dX3_sortOf_13 (by decide) (fun c3 => ?_) (fun c3 => ?_)
      · rw [if_neg c3] at hm1
        refine lv_iload_n hx hb dX3_sortOf_20 rfl (lv_at hl 0 rfl) ?_
        refine lv_bipush (v := 118) hx hb dX3_sortOf_21 (by decide) ?_
        refine lv_icmp_ne (tgt := 30) hx hb dX3_sortOf_23 (by decide) (fun c4 => ?_) (fun c4 => ?_)
        · rw [if_neg c4] at hm1
          refine lv_iload_n hx hb dX3_sortOf_30 rfl (lv_at hl 0 rfl) ?_
          refine lv_bipush (v := 107) hx hb dX3_sortOf_31 (by decide) ?_
          refine lv_icmp_ne (tgt := 40) hx hb dX3_sortOf_33 (by decide) (fun c5 => ?_) (fun c5 => ?_)
          · rw [if_neg c5] at hm1
            refine lv_iload_n hx hb dX3_sortOf_40 rfl (lv_at hl 0 rfl) ?_
            refine lv_bipush (v := 108) hx hb dX3_sortOf_41 (by decide) ?_
            refine lv_icmp_ne (tgt := 50) hx hb dX3_sortOf_43 (by decide) (fun c6 => ?_) (fun c6 => ?_)
            · rw [if_neg c6] at hm1
              refine lv_iconst (v := 0) hx hb dX3_sortOf_50 (by decide) ?_
              obtain rfl := so1 hm1
              exact K1 ls (lv_sub hl [] rfl)
            · rw [if_pos c6] at hm1
              refine lv_iconst (v := 5) hx hb dX3_sortOf_46 (by decide) ?_
              refine lv_goto (tgt := 51) hx hb dX3_sortOf_47 (by decide) ?_
              obtain rfl := so1 hm1
              exact K1 ls (lv_sub hl [] rfl)
          · rw [if_pos c5] at hm1
            refine lv_iconst (v := 4) hx hb dX3_sortOf_36 (by decide) ?_
            refine lv_goto (tgt := 51) hx hb dX3_sortOf_37 (by decide) ?_
            obtain rfl := so1 hm1
            exact K1 ls (lv_sub hl [] rfl)
        · rw [if_pos c4] at hm1
          refine lv_iconst (v := 3) hx hb dX3_sortOf_26 (by decide) ?_
          refine lv_goto (tgt := 51) hx hb dX3_sortOf_27 (by decide) ?_
          obtain rfl := so1 hm1
          exact K1 ls (lv_sub hl [] rfl)
      · rw [if_pos c3] at hm1
        refine lv_iconst (v := 2) hx hb dX3_sortOf_16 (by decide) ?_
        refine lv_goto (tgt := 51) hx hb dX3_sortOf_17 (by decide) ?_
        obtain rfl := so1 hm1
        exact K1 ls (lv_sub hl [] rfl)
    · rw [if_pos c2] at hm1
      refine lv_iconst (v := 1) hx hb dX3_sortOf_6 (by decide) ?_
      refine lv_goto (tgt := 51) hx hb dX3_sortOf_7 (by decide) ?_
      obtain rfl := so1 hm1
      exact K1 ls (lv_sub hl [] rfl)
theorem m_sortOf_ds : yX3_sortOf.cls = RX3 ∧ yX3_sortOf.cls ≠ "java/lang/invoke/MethodHandle" ∧ yX3_sortOf.cls ≠ "java/lang/invoke/VarHandle" ∧ (parseMethodDescriptor yX3_sortOf.desc).map (fun d => d.parameters.length) = some 1 := by decide +kernel
/-! isMore -/
def m_isMore (I : Nat → Int32) (A : Nat → Nat → Int32) : Option (Int32 × (Nat → Int32) × (Nat → Nat → Int32)) :=
  ob1 (zO 0) fun (v1 : Int32) =>
  some (v1, upd (upd I 12 ((I 11) - 1)) 13 3, A)
set_option maxRecDepth 100000 in
set_option maxHeartbeats 4000000 in
theorem m_isMore_met (l : Launch) (D : dd_) (ad : Nat → Nat) (hI : Inj mS ad) (I : Nat → Int32) (A : Nat → Nat → Int32) (r : Int32) (I1 : (Nat → Int32)) (A1 : (Nat → Nat → Int32)) (hf : m_isMore I A  = some (r, I1, A1)) : Met l yX3_isMore (ws_ yX3_isMore cX3_isMore 1 (some .boolean)) ({ frames := 1, cells := 0, slots := 0, locals := 16 }) (PcW D mS ad I A nR nG [.ref (ad 99)]) (QcW D mS ad I1 A1 nR nG (some (.int r))) 0 0 (frS mS ad) := by
  refine Met.ofW (cc := cX3_isMore) (maxL := 1) (ret := (some .boolean)) (by decide) rfl ?_
  intro p e s m args below meth c s₁ B hml hv
  obtain ⟨rfl, hK, hW⟩ := hv
  have hx := B.exec
  have hb := B.bytes
  have hr := B.returns
  have hts := atoms_spec (ws := (ws_ yX3_isMore cX3_isMore 1 (some .boolean))) B.pre
  have hts : ∀ w ∈ lw_all, w.before _ s = true := fun w h => hts w (List.mem_cons_of_mem _ h)
  have hown : s.vm.findClass RX3 = some m.cls := findClass_of_methodNamed B.named
  have hlocks := B.notSynchronized
  have hRf : 1 ≤ (headSpec (ws_ yX3_isMore cX3_isMore 1 (some .boolean)) ({ frames := 1, cells := 0, slots := 0, locals := 16 })).room.frames := Nat.le_refl _
  have hRl : 16 ≤ (headSpec (ws_ yX3_isMore cX3_isMore 1 (some .boolean)) ({ frames := 1, cells := 0, slots := 0, locals := 16 })).room.locals := Nat.le_refl _
  have hcs : 0 ≤ (headSpec (ws_ yX3_isMore cX3_isMore 1 (some .boolean)) ({ frames := 1, cells := 0, slots := 0, locals := 16 })).room.cells ∧ 0 ≤ (headSpec (ws_ yX3_isMore cX3_isMore 1 (some .boolean)) ({ frames := 1, cells := 0, slots := 0, locals := 16 })).room.slots := ⟨Nat.zero_le _, Nat.zero_le _⟩
  have hA : ∀ i ∈ idxS mS, frS mS ad (ad i) := fun i hi => ⟨i, hi, rfl⟩
  have hS : va_S (frS mS ad) s.heap s.heap [] := va_S.rf
  have hl := lv_entry ([.ref (ad 99)]) (n := 1) (Nat.le_of_ble_eq_true rfl)
  rw [lg_entry_eq]
  generalize (lg_sl ([.ref (ad 99)]) ++ List.replicate (1 - (lg_sl ([.ref (ad 99)])).length) Slot.unset).toArray = ls at hl ⊢
  have hl : lv_has ls 1 [(0, .ref (ad 99))] := hl
  have hf : (ob1 (zO 0) fun (v1 : Int32) =>
    some (v1, upd (upd I 12 ((I 11) - 1)) 13 3, A)) = some (r, I1, A1) := hf
  refine lv_aload_n hx hb dX3_isMore_0 rfl (lv_at hl 0 rfl) ?_
  refine lv_aload_n hx hb dX3_isMore_1 rfl (lv_at hl 0 rfl) ?_
  refine g_get (v := .int (I 11)) hx hb hts hown hK hW mO in_X3 rfl 11 (by decide) q1223 rfl rfl dX3_isMore_2 ?_
  refine lv_iconst (v := 1) hx hb dX3_isMore_5 (by decide) ?_
  refine lv_isub hx hb dX3_isMore_6 ?_
  refine g_putI hx hb hts hown hK mwf hI hA hW hS mO in_X3 tyX3 tyX3_ok nmX3 rfl 12 12 (by decide) rfl q1224 rfl rfl (by decide +kernel) dX3_isMore_7 (fun H locs hW hS => ?_)
  refine lv_aload_n hx hb dX3_isMore_10 rfl (lv_at hl 0 rfl) ?_
  refine lv_iconst (v := 3) hx hb dX3_isMore_11 (by decide) ?_
  refine g_putI hx hb hts hown hK mwf hI hA hW hS mO in_X3 tyX3 tyX3_ok nmX3 rfl 13 13 (by decide) rfl q1225 rfl rfl (by decide +kernel) dX3_isMore_12 (fun H locs hW hS => ?_)
  refine lv_iconst (v := 0) hx hb dX3_isMore_15 (by decide) ?_
  obtain ⟨v1, hv1, hf⟩ := ob1_e hf
  obtain ⟨hz, rfl⟩ := zO_e hv1
  obtain ⟨rfl, rfl, rfl⟩ := so3 hf
  exact W.zret hx hb hr (nar_z hz) (fun t ht _ => ⟨rfl, by rw [ht]; exact hW, hS.F ht⟩) hS.2.2 dX3_isMore_16
theorem m_isMore_ds : yX3_isMore.cls = RX3 ∧ yX3_isMore.cls ≠ "java/lang/invoke/MethodHandle" ∧ yX3_isMore.cls ≠ "java/lang/invoke/VarHandle" ∧ (parseMethodDescriptor yX3_isMore.desc).map (fun d => d.parameters.length) = some 0 := by decide +kernel
/-! takesPerson -/
def m_takesPerson (I : Nat → Int32) (A : Nat → Nat → Int32) : Option (Int32 × (Nat → Int32) × (Nat → Nat → Int32)) :=
  ob1 (m_byteAt (upd (upd I 12 (I 11)) 13 1) A ((upd (upd I 12 (I 11)) 13 1) 11)) fun (v1 : Int32) =>
  ob1 (m_sortOf v1) fun (v2 : Int32) =>
  if v2 = 0 then (ob1 (zO 0) fun (v25 : Int32) =>
    some (v25, upd (upd I 12 (I 11)) 13 1, A)) else (ob1 (ldO (A 0) 2044 225) fun (v4 : Int32) =>
    if v4 = 5 then (ob3 (m_isMore (upd (upd (upd I 12 (I 11)) 13 1) 11 (((upd (upd I 12 (I 11)) 13 1) 11) + 1)) A ) fun (v21 : Int32) (I22 : Nat → Int32) (A23 : Nat → Nat → Int32) =>
      ob1 (zO v21) fun (v24 : Int32) =>
      some (v24, I22, A23)) else (ob1 (stO (A 0) 2044 (229 + v4) v2) fun (f6 : Nat → Int32) =>
      ob1 (ldO ((va_up A 0 f6) 0) 2044 225) fun (v7 : Int32) =>
      ob1 (stO ((va_up A 0 f6) 0) 2044 225 (v7 + 1)) fun (f8 : Nat → Int32) =>
      ob3 (m_reads (upd (upd (upd I 12 (I 11)) 13 1) 11 (((upd (upd I 12 (I 11)) 13 1) 11) + 1)) (va_up (va_up A 0 f6) 0 f8) (15 + v4) 1 60 44) fun (v9 : Int32) (I10 : Nat → Int32) (A11 : Nat → Nat → Int32) =>
      ob3 (if v9 = 0 then ((some (0, I10, A11) : Option (Int32 × (Nat → Int32) × (Nat → Nat → Int32)))) else (ob3 (m_reads I10 A11 (20 + v4) 0 5 59) fun (v16 : Int32) (I17 : Nat → Int32) (A18 : Nat → Nat → Int32) =>
          if v16 = 0 then ((some (0, I17, A18) : Option (Int32 × (Nat → Int32) × (Nat → Nat → Int32)))) else ((some (1, I17, A18) : Option (Int32 × (Nat → Int32) × (Nat → Nat → Int32)))))) fun (v12 : Int32) (I13 : Nat → Int32) (A14 : Nat → Nat → Int32) =>
      ob1 (zO v12) fun (v20 : Int32) =>
      some (v20, I13, A14)))
set_option maxRecDepth 100000 in
set_option maxHeartbeats 4000000 in
theorem m_takesPerson_met (l : Launch) (D : dd_) (ad : Nat → Nat) (hI : Inj mS ad) (I : Nat → Int32) (A : Nat → Nat → Int32) (r : Int32) (I1 : (Nat → Int32)) (A1 : (Nat → Nat → Int32)) (hf : m_takesPerson I A  = some (r, I1, A1)) : Met l yX3_takesPerson (ws_ yX3_takesPerson cX3_takesPerson 3 (some .boolean)) ({ frames := 5, cells := 0, slots := 0, locals := 109 }) (PcW D mS ad I A nR nG [.ref (ad 99)]) (QcW D mS ad I1 A1 nR nG (some (.int r))) 0 0 (frS mS ad) := by
  refine Met.ofW (cc := cX3_takesPerson) (maxL := 3) (ret := (some .boolean)) (by decide) rfl ?_
  intro p e s m args below meth c s₁ B hml hv
  obtain ⟨rfl, hK, hW⟩ := hv
  have hx := B.exec
  have hb := B.bytes
  have hr := B.returns
  have hts := atoms_spec (ws := (ws_ yX3_takesPerson cX3_takesPerson 3 (some .boolean))) B.pre
  have hts : ∀ w ∈ lw_all, w.before _ s = true := fun w h => hts w (List.mem_cons_of_mem _ h)
  have hown : s.vm.findClass RX3 = some m.cls := findClass_of_methodNamed B.named
  have hlocks := B.notSynchronized
  have hRf : 5 ≤ (headSpec (ws_ yX3_takesPerson cX3_takesPerson 3 (some .boolean)) ({ frames := 5, cells := 0, slots := 0, locals := 109 })).room.frames := Nat.le_refl _
  have hRl : 109 ≤ (headSpec (ws_ yX3_takesPerson cX3_takesPerson 3 (some .boolean)) ({ frames := 5, cells := 0, slots := 0, locals := 109 })).room.locals := Nat.le_refl _
  have hcs : 0 ≤ (headSpec (ws_ yX3_takesPerson cX3_takesPerson 3 (some .boolean)) ({ frames := 5, cells := 0, slots := 0, locals := 109 })).room.cells ∧ 0 ≤ (headSpec (ws_ yX3_takesPerson cX3_takesPerson 3 (some .boolean)) ({ frames := 5, cells := 0, slots := 0, locals := 109 })).room.slots := ⟨Nat.zero_le _, Nat.zero_le _⟩
  have hA : ∀ i ∈ idxS mS, frS mS ad (ad i) := fun i hi => ⟨i, hi, rfl⟩
  have hS : va_S (frS mS ad) s.heap s.heap [] := va_S.rf
  have hl := lv_entry ([.ref (ad 99)]) (n := 3) (Nat.le_of_ble_eq_true rfl)
  rw [lg_entry_eq]
  generalize (lg_sl ([.ref (ad 99)]) ++ List.replicate (3 - (lg_sl ([.ref (ad 99)])).length) Slot.unset).toArray = ls at hl ⊢
  have hl : lv_has ls 3 [(0, .ref (ad 99))] := hl
  have hf : (ob1 (m_byteAt (upd (upd I 12 (I 11)) 13 1) A ((upd (upd I 12 (I 11)) 13 1) 11)) fun (v1 : Int32) =>
    ob1 (m_sortOf v1) fun (v2 : Int32) =>
    if v2 = 0 then (ob1 (zO 0) fun (v25 : Int32) =>
      some (v25, upd (upd I 12 (I 11)) 13 1, A)) else (ob1 (ldO (A 0) 2044 225) fun (v4 : Int32) =>
      if v4 = 5 then (ob3 (m_isMore (upd (upd (upd I 12 (I 11)) 13 1) 11 (((upd (upd I 12 (I 11)) 13 1) 11) + 1)) A ) fun (v21 : Int32) (I22 : Nat → Int32) (A23 : Nat → Nat → Int32) =>
        ob1 (zO v21) fun (v24 : Int32) =>
        some (v24, I22, A23)) else (ob1 (stO (A 0) 2044 (229 + v4) v2) fun (f6 : Nat → Int32) =>
        ob1 (ldO ((va_up A 0 f6) 0) 2044 225) fun (v7 : Int32) =>
        ob1 (stO ((va_up A 0 f6) 0) 2044 225 (v7 + 1)) fun (f8 : Nat → Int32) =>
        ob3 (m_reads (upd (upd (upd I 12 (I 11)) 13 1) 11 (((upd (upd I 12 (I 11)) 13 1) 11) + 1)) (va_up (va_up A 0 f6) 0 f8) (15 + v4) 1 60 44) fun (v9 : Int32) (I10 : Nat → Int32) (A11 : Nat → Nat → Int32) =>
        ob3 (if v9 = 0 then ((some (0, I10, A11) : Option (Int32 × (Nat → Int32) × (Nat → Nat → Int32)))) else (ob3 (m_reads I10 A11 (20 + v4) 0 5 59) fun (v16 : Int32) (I17 : Nat → Int32) (A18 : Nat → Nat → Int32) =>
            if v16 = 0 then ((some (0, I17, A18) : Option (Int32 × (Nat → Int32) × (Nat → Nat → Int32)))) else ((some (1, I17, A18) : Option (Int32 × (Nat → Int32) × (Nat → Nat → Int32)))))) fun (v12 : Int32) (I13 : Nat → Int32) (A14 : Nat → Nat → Int32) =>
        ob1 (zO v12) fun (v20 : Int32) =>
        some (v20, I13, A14)))) = some (r, I1, A1) := hf
  refine lv_aload_n hx hb dX3_takesPerson_0 rfl (lv_at hl 0 rfl) ?_
  refine lv_aload_n hx hb dX3_takesPerson_1 rfl (lv_at hl 0 rfl) ?_
  refine g_get (v := .int (I 11)) hx hb hts hown hK hW mO in_X3 rfl 11 (by decide) q1223 rfl rfl dX3_takesPerson_2 ?_
  refine g_putI hx hb hts hown hK mwf hI hA hW hS mO in_X3 tyX3 tyX3_ok nmX3 rfl 12 12 (by decide) rfl q1224 rfl rfl (by decide +kernel) dX3_takesPerson_5 (fun H locs hW hS => ?_)
  refine lv_aload_n hx hb dX3_takesPerson_8 rfl (lv_at hl 0 rfl) ?_
  refine lv_iconst (v := 1) hx hb dX3_takesPerson_9 (by decide) ?_
  refine g_putI hx hb hts hown hK mwf hI hA hW hS mO in_X3 tyX3 tyX3_ok nmX3 rfl 13 13 (by decide) rfl q1225 rfl rfl (by decide +kernel) dX3_takesPerson_10 (fun H locs hW hS => ?_)
  refine lv_aload_n hx hb dX3_takesPerson_13 rfl (lv_at hl 0 rfl) ?_
  refine lv_aload_n hx hb dX3_takesPerson_14 rfl (lv_at hl 0 rfl) ?_
  refine g_get (v := .int ((upd (upd I 12 (I 11)) 13 1) 11)) hx hb hts hown hK hW mO in_X3 rfl 11 (by decide) q1223 rfl rfl dX3_takesPerson_15 ?_
  obtain ⟨v1, h1, hf⟩ := ob1_e hf
  refine g_vR (ov := some (.int v1)) (D := D) (Sc := mS) (adc := ad) (Ic := (upd (upd I 12 (I 11)) 13 1)) (Ac := A) (Rc := nR) (Gc := nG) (As := [.int ((upd (upd I 12 (I 11)) 13 1) 11)]) (rest := []) (b := ad 99) (C := RX3) ⟨hx, hb, hml, hown, hts⟩ (m_byteAt_met l D ad (upd (upd I 12 (I 11)) 13 1) A ((upd (upd I 12 (I 11)) 13 1) 11) v1 h1) (g_cwV 1 hts (lw_V q1349 q1351 qs39 q82 q1352) rfl rfl m_byteAt_ds ⟨Nat.le_trans (Nat.le_of_ble_eq_true rfl) hRf, Nat.le_trans (Nat.le_of_ble_eq_true rfl) hRl⟩) (g_recv hK hW mO rfl) hK hW hcs rfl hl.1 rfl (Nat.le_of_ble_eq_true rfl) dX3_takesPerson_18 ?_
  obtain ⟨v2, h2, hf⟩ := ob1_e hf
  refine g_sR (ov := some (.int v2)) (D := D) (Sc := nS) (adc := ad) (Ic := (fun _ => 0)) (Ac := (fun _ _ => 0)) (Rc := nR) (Gc := nG) (As := [.int v1]) (rest := []) ⟨hx, hb, hml, hown, hts⟩ (m_sortOf_met l D ad v1 v2 h2) (va_cwS 1 hts (lw_S q1371 q1372 q82 q1373) rfl rfl rfl m_sortOf_ds.2 ⟨Nat.le_trans (Nat.le_of_ble_eq_true rfl) hRf, Nat.le_trans (Nat.le_of_ble_eq_true rfl) hRl⟩) hK WH_nil hcs rfl hl.1 rfl (Nat.le_of_ble_eq_true rfl) dX3_takesPerson_21 ?_
  refine lv_istore_n (lv' := [(1, .int v2), (0, .ref (ad 99))]) hx hb dX3_takesPerson_24 rfl hl (by decide) rfl (fun ls hl => ?_)
  refine lv_iload_n hx hb dX3_takesPerson_25 rfl (lv_at hl 0 rfl) ?_
  refine lv_if_ne (tgt := 31) hx hb dX3_takesPerson_26 (by decide) (fun c3 => ?_) (fun c3 => ?_)
  · rw [if_neg c3] at hf
    refine lv_aload_n hx hb dX3_takesPerson_31 rfl (lv_at hl 1 rfl) ?_
    refine lv_dup hx hb dX3_takesPerson_32 rfl ?_
    refine g_get (v := .int ((upd (upd I 12 (I 11)) 13 1) 11)) hx hb hts hown hK hW mO in_X3 rfl 11 (by decide) q1223 rfl rfl dX3_takesPerson_33 ?_
    refine lv_iconst (v := 1) hx hb dX3_takesPerson_36 (by decide) ?_
    refine lv_iadd hx hb dX3_takesPerson_37 ?_
    refine g_putI hx hb hts hown hK mwf hI hA hW hS mO in_X3 tyX3 tyX3_ok nmX3 rfl 11 11 (by decide) rfl q1223 rfl rfl (by decide +kernel) dX3_takesPerson_38 (fun H locs hW hS => ?_)
    refine lv_aload_n hx hb dX3_takesPerson_41 rfl (lv_at hl 1 rfl) ?_
    refine g_get (v := .ref (ad 0)) hx hb hts hown hK hW mO in_X3 rfl 0 (by decide) q1212 rfl rfl dX3_takesPerson_42 ?_
    refine lv_sipush (v := 225) hx hb dX3_takesPerson_45 (by decide) ?_
    obtain ⟨v4, hv4, hf⟩ := ob1_e hf
    refine g_iald hx hb hK hW mA0 hv4 dX3_takesPerson_48 ?_
    refine lv_istore_n (lv' := [(2, .int v4), (1, .int v2), (0, .ref (ad 99))]) hx hb dX3_takesPerson_49 rfl hl (by decide) rfl (fun ls hl => ?_)
    refine lv_iload_n hx hb dX3_takesPerson_50 rfl (lv_at hl 0 rfl) ?_
    refine lv_iconst (v := 5) hx hb dX3_takesPerson_51 (by decide) ?_
    refine lv_icmp_ne (tgt := 60) hx hb dX3_takesPerson_52 (by decide) (fun c5 => ?_) (fun c5 => ?_)
    · rw [if_neg c5] at hf
      refine lv_aload_n hx hb dX3_takesPerson_60 rfl (lv_at hl 2 rfl) ?_
      refine g_get (v := .ref (ad 0)) hx hb hts hown hK hW mO in_X3 rfl 0 (by decide) q1212 rfl rfl dX3_takesPerson_61 ?_
      refine lv_sipush (v := 229) hx hb dX3_takesPerson_64 (by decide) ?_
      refine lv_iload_n hx hb dX3_takesPerson_67 rfl (lv_at hl 0 rfl) ?_
      refine lv_iadd hx hb dX3_takesPerson_68 ?_
      refine lv_iload_n hx hb dX3_takesPerson_69 rfl (lv_at hl 1 rfl) ?_
      obtain ⟨f6, hf6, hf⟩ := ob1_e hf
      refine g_iast hx hb hK mwf hI hA hW hS mA0 hf6 dX3_takesPerson_70 (fun H locs hW hS => ?_)
      refine lv_aload_n hx hb dX3_takesPerson_71 rfl (lv_at hl 2 rfl) ?_
      refine g_get (v := .ref (ad 0)) hx hb hts hown hK hW mO in_X3 rfl 0 (by decide) q1212 rfl rfl dX3_takesPerson_72 ?_
      refine lv_sipush (v := 225) hx hb dX3_takesPerson_75 (by decide) ?_
      refine lv_dup2_11 hx hb dX3_takesPerson_78 rfl rfl ?_
      obtain ⟨v7, hv7, hf⟩ := ob1_e hf
      refine g_iald hx hb hK hW mA0 hv7 dX3_takesPerson_79 ?_
      refine lv_iconst (v := 1) hx hb dX3_takesPerson_80 (by decide) ?_
      refine lv_iadd hx hb dX3_takesPerson_81 ?_
      obtain ⟨f8, hf8, hf⟩ := ob1_e hf
      refine g_iast hx hb hK mwf hI hA hW hS mA0 hf8 dX3_takesPerson_82 (fun H locs hW hS => ?_)
      refine lv_aload_n hx hb dX3_takesPerson_83 rfl (lv_at hl 2 rfl) ?_
      refine lv_bipush (v := 15) hx hb dX3_takesPerson_84 (by decide) ?_
      refine lv_iload_n hx hb dX3_takesPerson_86 rfl (lv_at hl 0 rfl) ?_
      refine lv_iadd hx hb dX3_takesPerson_87 ?_
      refine lv_iconst (v := 1) hx hb dX3_takesPerson_88 (by decide) ?_
      refine lv_bipush (v := 60) hx hb dX3_takesPerson_89 (by decide) ?_
      refine lv_bipush (v := 44) hx hb dX3_takesPerson_91 (by decide) ?_
      obtain ⟨v9, I10, A11, h11, hf⟩ := ob3_e hf
      refine g_vW (ov := some (.int v9)) (D := D) (Sc := mS) (adc := ad) (Ic := (upd (upd (upd I 12 (I 11)) 13 1) 11 (((upd (upd I 12 (I 11)) 13 1) 11) + 1))) (Ac := (va_up (va_up A 0 f6) 0 f8)) (Rc := nR) (Gc := nG) (As := [.int (15 + v4), .int 1, .int 60, .int 44]) (rest := []) (Ic1 := I10) (Ac1 := A11) (Rc1 := nR) (Gc1 := nG) (b := ad 99) (C := RX3) ⟨hx, hb, hml, hown, hts⟩ (m_reads_met l D ad hI (upd (upd (upd I 12 (I 11)) 13 1) 11 (((upd (upd I 12 (I 11)) 13 1) 11) + 1)) (va_up (va_up A 0 f6) 0 f8) (15 + v4) 1 60 44 v9 I10 A11 h11) (g_cwV 4 hts (lw_V q1353 q1355 qs40 q82 q1356) rfl rfl m_reads_ds ⟨Nat.le_trans (Nat.le_of_ble_eq_true rfl) hRf, Nat.le_trans (Nat.le_of_ble_eq_true rfl) hRl⟩) (g_recv hK hW mO rfl) hK hW hS hA hcs rfl hl.1 rfl (Nat.le_of_ble_eq_true rfl) dX3_takesPerson_93 (fun H locs hW _ hS => ?_)
      obtain ⟨v12, I13, A14, hm14, hf⟩ := ob3_e hf
      refine w_cutH (A0 := frS mS ad) (H0 := s.heap) (X := WH D mS ad I13 A14 nR nG) (nL := 3) (L := []) (pcj := 119) (st := [.int v12]) (fun H locs ls hW hS hl => ?_) (fun K14 => ?_)
      · obtain ⟨v20, hv20, hf⟩ := ob1_e hf
        obtain ⟨hz, rfl⟩ := zO_e hv20
        obtain ⟨rfl, rfl, rfl⟩ := so3 hf
        exact W.zret hx hb hr (nar_z hz) (fun t ht _ => ⟨rfl, by rw [ht]; exact hW, hS.F ht⟩) hS.2.2 dX3_takesPerson_119
      · refine lv_if_eq (tgt := 118) hx hb dX3_takesPerson_96 (by decide) (fun c15 => ?_) (fun c15 => ?_)
        · rw [if_pos c15] at hm14
          refine lv_iconst (v := 0) hx hb dX3_takesPerson_118 (by decide) ?_
          obtain ⟨rfl, rfl, rfl⟩ := so3 hm14
          exact K14 _ _ ls hW hS (lv_sub hl [] rfl)
        · rw [if_neg c15] at hm14
          refine lv_aload_n hx hb dX3_takesPerson_99 rfl (lv_at hl 2 rfl) ?_
          refine lv_bipush (v := 20) hx hb dX3_takesPerson_100 (by decide) ?_
          refine lv_iload_n hx hb dX3_takesPerson_102 rfl (lv_at hl 0 rfl) ?_
          refine lv_iadd hx hb dX3_takesPerson_103 ?_
          refine lv_iconst (v := 0) hx hb dX3_takesPerson_104 (by decide) ?_
          refine lv_iconst (v := 5) hx hb dX3_takesPerson_105 (by decide) ?_
          refine lv_bipush (v := 59) hx hb dX3_takesPerson_106 (by decide) ?_
          obtain ⟨v16, I17, A18, h18, hm14⟩ := ob3_e hm14
          refine g_vW (ov := some (.int v16)) (D := D) (Sc := mS) (adc := ad) (Ic := I10) (Ac := A11) (Rc := nR) (Gc := nG) (As := [.int (20 + v4), .int 0, .int 5, .int 59]) (rest := []) (Ic1 := I17) (Ac1 := A18) (Rc1 := nR) (Gc1 := nG) (b := ad 99) (C := RX3) ⟨hx, hb, hml, hown, hts⟩ (m_reads_met l D ad hI I10 A11 (20 + v4) 0 5 59 v16 I17 A18 h18) (g_cwV 4 hts (lw_V q1353 q1355 qs40 q82 q1356) rfl rfl m_reads_ds ⟨Nat.le_trans (Nat.le_of_ble_eq_true rfl) hRf, Nat.le_trans (Nat.le_of_ble_eq_true rfl) hRl⟩) (g_recv hK hW mO rfl) hK hW hS hA hcs rfl hl.1 rfl (Nat.le_of_ble_eq_true rfl) dX3_takesPerson_108 (fun H locs hW _ hS => ?_)
          refine lv_if_eq (tgt := 118) hx hb dX3_takesPerson_111 (by decide) (fun c19 => ?_) (fun c19 => ?_)
          · rw [if_pos c19] at hm14
            refine lv_iconst (v := 0) hx hb dX3_takesPerson_118 (by decide) ?_
            obtain ⟨rfl, rfl, rfl⟩ := so3 hm14
            exact K14 _ _ ls hW hS (lv_sub hl [] rfl)
          · rw [if_neg c19] at hm14
            refine lv_iconst (v := 1) hx hb dX3_takesPerson_114 (by decide) ?_
            refine lv_goto (tgt := 119) hx hb dX3_takesPerson_115 (by decide) ?_
            obtain ⟨rfl, rfl, rfl⟩ := so3 hm14
            exact K14 _ _ ls hW hS (lv_sub hl [] rfl)
    · rw [if_pos c5] at hf
      refine lv_aload_n hx hb dX3_takesPerson_55 rfl (lv_at hl 2 rfl) ?_
      obtain ⟨v21, I22, A23, h23, hf⟩ := ob3_e hf
      refine g_vW (ov := some (.int v21)) (D := D) (Sc := mS) (adc := ad) (Ic := (upd (upd (upd I 12 (I 11)) 13 1) 11 (((upd (upd I 12 (I 11)) 13 1) 11) + 1))) (Ac := A) (Rc := nR) (Gc := nG) (As := []) (rest := []) (Ic1 := I22) (Ac1 := A23) (Rc1 := nR) (Gc1 := nG) (b := ad 99) (C := RX3) ⟨hx, hb, hml, hown, hts⟩ (m_isMore_met l D ad hI (upd (upd (upd I 12 (I 11)) 13 1) 11 (((upd (upd I 12 (I 11)) 13 1) 11) + 1)) A  v21 I22 A23 h23) (g_cwV 0 hts (lw_V q1374 q1376 qs44 q82 q1377) rfl rfl m_isMore_ds ⟨Nat.le_trans (Nat.le_of_ble_eq_true rfl) hRf, Nat.le_trans (Nat.le_of_ble_eq_true rfl) hRl⟩) (g_recv hK hW mO rfl) hK hW hS hA hcs rfl hl.1 rfl (Nat.le_of_ble_eq_true rfl) dX3_takesPerson_56 (fun H locs hW _ hS => ?_)
      obtain ⟨v24, hv24, hf⟩ := ob1_e hf
      obtain ⟨hz, rfl⟩ := zO_e hv24
      obtain ⟨rfl, rfl, rfl⟩ := so3 hf
      exact W.zret hx hb hr (nar_z hz) (fun t ht _ => ⟨rfl, by rw [ht]; exact hW, hS.F ht⟩) hS.2.2 dX3_takesPerson_59
  · rw [if_pos c3] at hf
    refine lv_iconst (v := 0) hx hb dX3_takesPerson_29 (by decide) ?_
    obtain ⟨v25, hv25, hf⟩ := ob1_e hf
    obtain ⟨hz, rfl⟩ := zO_e hv25
    obtain ⟨rfl, rfl, rfl⟩ := so3 hf
    exact W.zret hx hb hr (nar_z hz) (fun t ht _ => ⟨rfl, by rw [ht]; exact hW, hS.F ht⟩) hS.2.2 dX3_takesPerson_30
theorem m_takesPerson_ds : yX3_takesPerson.cls = RX3 ∧ yX3_takesPerson.cls ≠ "java/lang/invoke/MethodHandle" ∧ yX3_takesPerson.cls ≠ "java/lang/invoke/VarHandle" ∧ (parseMethodDescriptor yX3_takesPerson.desc).map (fun d => d.parameters.length) = some 0 := by decide +kernel
/-! takesPromise -/
def m_takesPromise (I : Nat → Int32) (A : Nat → Nat → Int32) : Option (Int32 × (Nat → Int32) × (Nat → Nat → Int32)) :=
  ob3 (m_takes I A 109) fun (v1 : Int32) (I2 : Nat → Int32) (A3 : Nat → Nat → Int32) =>
  if v1 = 0 then (ob1 (zO 0) fun (v48 : Int32) =>
    some (v48, I2, A3)) else (ob1 (ldO (A3 0) 2044 226) fun (v5 : Int32) =>
    if v5 = 8 then (ob3 (m_isMore I2 A3 ) fun (v44 : Int32) (I45 : Nat → Int32) (A46 : Nat → Nat → Int32) =>
      ob1 (zO v44) fun (v47 : Int32) =>
      some (v47, I45, A46)) else (ob1 (ldO (A3 0) 2044 225) fun (v7 : Int32) =>
      ob3 (m_reads I2 A3 (25 + v5) 0 (v7 - 1) 44) fun (v8 : Int32) (I9 : Nat → Int32) (A10 : Nat → Nat → Int32) =>
      if v8 = 0 then (ob1 (zO 0) fun (v12 : Int32) =>
        some (v12, I9, A10)) else (ob3 (m_takesNumber I9 A10 0 (v7 - 1)) fun (v13 : Int32) (I14 : Nat → Int32) (A15 : Nat → Nat → Int32) =>
        if v13 = 0 then (ob1 (zO 0) fun (v17 : Int32) =>
          some (v17, I14, A15)) else (ob1 (ldO (A15 0) 2044 (244 + v5)) fun (v18 : Int32) =>
          if (I14 14) = v18 then (ob1 (zO 0) fun (v43 : Int32) =>
            some (v43, I14, A15)) else (ob1 (stO (A15 0) 2044 (252 + v5) (I14 14)) fun (f20 : Nat → Int32) =>
            ob1 (ldO ((va_up A15 0 f20) 0) 2044 226) fun (v21 : Int32) =>
            ob1 (stO ((va_up A15 0 f20) 0) 2044 226 (v21 + 1)) fun (f22 : Nat → Int32) =>
            ob3 (m_takes I14 (va_up (va_up A15 0 f20) 0 f22) 44) fun (v23 : Int32) (I24 : Nat → Int32) (A25 : Nat → Nat → Int32) =>
            ob3 (if v23 = 0 then ((some (0, I24, A25) : Option (Int32 × (Nat → Int32) × (Nat → Nat → Int32)))) else (ob3 (m_reads I24 A25 (41 + v5) 1 20 44) fun (v30 : Int32) (I31 : Nat → Int32) (A32 : Nat → Nat → Int32) =>
                if v30 = 0 then ((some (0, I31, A32) : Option (Int32 × (Nat → Int32) × (Nat → Nat → Int32)))) else (ob3 (m_reads I31 A32 (49 + v5) 0 99 44) fun (v34 : Int32) (I35 : Nat → Int32) (A36 : Nat → Nat → Int32) =>
                  if v34 = 0 then ((some (0, I35, A36) : Option (Int32 × (Nat → Int32) × (Nat → Nat → Int32)))) else (ob3 (m_reads I35 A36 (57 + v5) 0 5 59) fun (v38 : Int32) (I39 : Nat → Int32) (A40 : Nat → Nat → Int32) =>
                    if v38 = 0 then ((some (0, I39, A40) : Option (Int32 × (Nat → Int32) × (Nat → Nat → Int32)))) else ((some (1, I39, A40) : Option (Int32 × (Nat → Int32) × (Nat → Nat → Int32)))))))) fun (v26 : Int32) (I27 : Nat → Int32) (A28 : Nat → Nat → Int32) =>
            ob1 (zO v26) fun (v42 : Int32) =>
            some (v42, I27, A28))))))
set_option maxRecDepth 100000 in
set_option maxHeartbeats 4000000 in
theorem m_takesPromise_met (l : Launch) (D : dd_) (ad : Nat → Nat) (hI : Inj mS ad) (I : Nat → Int32) (A : Nat → Nat → Int32) (r : Int32) (I1 : (Nat → Int32)) (A1 : (Nat → Nat → Int32)) (hf : m_takesPromise I A  = some (r, I1, A1)) : Met l yX3_takesPromise (ws_ yX3_takesPromise cX3_takesPromise 3 (some .boolean)) ({ frames := 5, cells := 0, slots := 0, locals := 109 }) (PcW D mS ad I A nR nG [.ref (ad 99)]) (QcW D mS ad I1 A1 nR nG (some (.int r))) 0 0 (frS mS ad) := by
  refine Met.ofW (cc := cX3_takesPromise) (maxL := 3) (ret := (some .boolean)) (by decide) rfl ?_
  intro p e s m args below meth c s₁ B hml hv
  obtain ⟨rfl, hK, hW⟩ := hv
  have hx := B.exec
  have hb := B.bytes
  have hr := B.returns
  have hts := atoms_spec (ws := (ws_ yX3_takesPromise cX3_takesPromise 3 (some .boolean))) B.pre
  have hts : ∀ w ∈ lw_all, w.before _ s = true := fun w h => hts w (List.mem_cons_of_mem _ h)
  have hown : s.vm.findClass RX3 = some m.cls := findClass_of_methodNamed B.named
  have hlocks := B.notSynchronized
  have hRf : 5 ≤ (headSpec (ws_ yX3_takesPromise cX3_takesPromise 3 (some .boolean)) ({ frames := 5, cells := 0, slots := 0, locals := 109 })).room.frames := Nat.le_refl _
  have hRl : 109 ≤ (headSpec (ws_ yX3_takesPromise cX3_takesPromise 3 (some .boolean)) ({ frames := 5, cells := 0, slots := 0, locals := 109 })).room.locals := Nat.le_refl _
  have hcs : 0 ≤ (headSpec (ws_ yX3_takesPromise cX3_takesPromise 3 (some .boolean)) ({ frames := 5, cells := 0, slots := 0, locals := 109 })).room.cells ∧ 0 ≤ (headSpec (ws_ yX3_takesPromise cX3_takesPromise 3 (some .boolean)) ({ frames := 5, cells := 0, slots := 0, locals := 109 })).room.slots := ⟨Nat.zero_le _, Nat.zero_le _⟩
  have hA : ∀ i ∈ idxS mS, frS mS ad (ad i) := fun i hi => ⟨i, hi, rfl⟩
  have hS : va_S (frS mS ad) s.heap s.heap [] := va_S.rf
  have hl := lv_entry ([.ref (ad 99)]) (n := 3) (Nat.le_of_ble_eq_true rfl)
  rw [lg_entry_eq]
  generalize (lg_sl ([.ref (ad 99)]) ++ List.replicate (3 - (lg_sl ([.ref (ad 99)])).length) Slot.unset).toArray = ls at hl ⊢
  have hl : lv_has ls 3 [(0, .ref (ad 99))] := hl
  have hf : (ob3 (m_takes I A 109) fun (v1 : Int32) (I2 : Nat → Int32) (A3 : Nat → Nat → Int32) =>
    if v1 = 0 then (ob1 (zO 0) fun (v48 : Int32) =>
      some (v48, I2, A3)) else (ob1 (ldO (A3 0) 2044 226) fun (v5 : Int32) =>
      if v5 = 8 then (ob3 (m_isMore I2 A3 ) fun (v44 : Int32) (I45 : Nat → Int32) (A46 : Nat → Nat → Int32) =>
        ob1 (zO v44) fun (v47 : Int32) =>
        some (v47, I45, A46)) else (ob1 (ldO (A3 0) 2044 225) fun (v7 : Int32) =>
        ob3 (m_reads I2 A3 (25 + v5) 0 (v7 - 1) 44) fun (v8 : Int32) (I9 : Nat → Int32) (A10 : Nat → Nat → Int32) =>
        if v8 = 0 then (ob1 (zO 0) fun (v12 : Int32) =>
          some (v12, I9, A10)) else (ob3 (m_takesNumber I9 A10 0 (v7 - 1)) fun (v13 : Int32) (I14 : Nat → Int32) (A15 : Nat → Nat → Int32) =>
          if v13 = 0 then (ob1 (zO 0) fun (v17 : Int32) =>
            some (v17, I14, A15)) else (ob1 (ldO (A15 0) 2044 (244 + v5)) fun (v18 : Int32) =>
            if (I14 14) = v18 then (ob1 (zO 0) fun (v43 : Int32) =>
              some (v43, I14, A15)) else (ob1 (stO (A15 0) 2044 (252 + v5) (I14 14)) fun (f20 : Nat → Int32) =>
              ob1 (ldO ((va_up A15 0 f20) 0) 2044 226) fun (v21 : Int32) =>
              ob1 (stO ((va_up A15 0 f20) 0) 2044 226 (v21 + 1)) fun (f22 : Nat → Int32) =>
              ob3 (m_takes I14 (va_up (va_up A15 0 f20) 0 f22) 44) fun (v23 : Int32) (I24 : Nat → Int32) (A25 : Nat → Nat → Int32) =>
              ob3 (if v23 = 0 then ((some (0, I24, A25) : Option (Int32 × (Nat → Int32) × (Nat → Nat → Int32)))) else (ob3 (m_reads I24 A25 (41 + v5) 1 20 44) fun (v30 : Int32) (I31 : Nat → Int32) (A32 : Nat → Nat → Int32) =>
                  if v30 = 0 then ((some (0, I31, A32) : Option (Int32 × (Nat → Int32) × (Nat → Nat → Int32)))) else (ob3 (m_reads I31 A32 (49 + v5) 0 99 44) fun (v34 : Int32) (I35 : Nat → Int32) (A36 : Nat → Nat → Int32) =>
                    if v34 = 0 then ((some (0, I35, A36) : Option (Int32 × (Nat → Int32) × (Nat → Nat → Int32)))) else (ob3 (m_reads I35 A36 (57 + v5) 0 5 59) fun (v38 : Int32) (I39 : Nat → Int32) (A40 : Nat → Nat → Int32) =>
                      if v38 = 0 then ((some (0, I39, A40) : Option (Int32 × (Nat → Int32) × (Nat → Nat → Int32)))) else ((some (1, I39, A40) : Option (Int32 × (Nat → Int32) × (Nat → Nat → Int32)))))))) fun (v26 : Int32) (I27 : Nat → Int32) (A28 : Nat → Nat → Int32) =>
              ob1 (zO v26) fun (v42 : Int32) =>
              some (v42, I27, A28))))))) = some (r, I1, A1) := hf
  refine lv_aload_n hx hb dX3_takesPromise_0 rfl (lv_at hl 0 rfl) ?_
  refine lv_bipush (v := 109) hx hb dX3_takesPromise_1 (by decide) ?_
  obtain ⟨v1, I2, A3, h3, hf⟩ := ob3_e hf
  refine g_vW (ov := some (.int v1)) (D := D) (Sc := mS) (adc := ad) (Ic := I) (Ac := A) (Rc := nR) (Gc := nG) (As := [.int 109]) (rest := []) (Ic1 := I2) (Ac1 := A3) (Rc1 := nR) (Gc1 := nG) (b := ad 99) (C := RX3) ⟨hx, hb, hml, hown, hts⟩ (m_takes_met l D ad hI I A 109 v1 I2 A3 h3) (g_cwV 1 hts (lw_V q1345 q1347 qs38 q82 q1348) rfl rfl m_takes_ds ⟨Nat.le_trans (Nat.le_of_ble_eq_true rfl) hRf, Nat.le_trans (Nat.le_of_ble_eq_true rfl) hRl⟩) (g_recv hK hW mO rfl) hK hW hS hA hcs rfl hl.1 rfl (Nat.le_of_ble_eq_true rfl) dX3_takesPromise_3 (fun H locs hW _ hS => ?_)
  refine lv_if_ne (tgt := 11) hx hb dX3_takesPromise_6 (by decide) (fun c4 => ?_) (fun c4 => ?_)
  · rw [if_neg c4] at hf
    refine lv_aload_n hx hb dX3_takesPromise_11 rfl (lv_at hl 0 rfl) ?_
    refine g_get (v := .ref (ad 0)) hx hb hts hown hK hW mO in_X3 rfl 0 (by decide) q1212 rfl rfl dX3_takesPromise_12 ?_
    refine lv_sipush (v := 226) hx hb dX3_takesPromise_15 (by decide) ?_
    obtain ⟨v5, hv5, hf⟩ := ob1_e hf
    refine g_iald hx hb hK hW mA0 hv5 dX3_takesPromise_18 ?_
    refine lv_istore_n (lv' := [(1, .int v5), (0, .ref (ad 99))]) hx hb dX3_takesPromise_19 rfl hl (by decide) rfl (fun ls hl => ?_)
    refine lv_iload_n hx hb dX3_takesPromise_20 rfl (lv_at hl 0 rfl) ?_
    refine lv_bipush (v := 8) hx hb dX3_takesPromise_21 (by decide) ?_
    refine lv_icmp_ne (tgt := 31) hx hb dX3_takesPromise_23 (by decide) (fun c6 => ?_) (fun c6 => ?_)
    · rw [if_neg c6] at hf
      refine lv_aload_n hx hb dX3_takesPromise_31 rfl (lv_at hl 1 rfl) ?_
      refine g_get (v := .ref (ad 0)) hx hb hts hown hK hW mO in_X3 rfl 0 (by decide) q1212 rfl rfl dX3_takesPromise_32 ?_
      refine lv_sipush (v := 225) hx hb dX3_takesPromise_35 (by decide) ?_
      obtain ⟨v7, hv7, hf⟩ := ob1_e hf
      refine g_iald hx hb hK hW mA0 hv7 dX3_takesPromise_38 ?_
      refine lv_iconst (v := 1) hx hb dX3_takesPromise_39 (by decide) ?_
      refine lv_isub hx hb dX3_takesPromise_40 ?_
      refine lv_istore_n (lv' := [(2, .int (v7 - 1)), (1, .int v5), (0, .ref (ad 99))]) hx hb dX3_takesPromise_41 rfl hl (by decide) rfl (fun ls hl => ?_)
      refine lv_aload_n hx hb dX3_takesPromise_42 rfl (lv_at hl 2 rfl) ?_
      refine lv_bipush (v := 25) hx hb dX3_takesPromise_43 (by decide) ?_
      refine lv_iload_n hx hb dX3_takesPromise_45 rfl (lv_at hl 1 rfl) ?_
      refine lv_iadd hx hb dX3_takesPromise_46 ?_
      refine lv_iconst (v := 0) hx hb dX3_takesPromise_47 (by decide) ?_
      refine lv_iload_n hx hb dX3_takesPromise_48 rfl (lv_at hl 0 rfl) ?_
      refine lv_bipush (v := 44) hx hb dX3_takesPromise_49 (by decide) ?_
      obtain ⟨v8, I9, A10, h10, hf⟩ := ob3_e hf
      refine g_vW (ov := some (.int v8)) (D := D) (Sc := mS) (adc := ad) (Ic := I2) (Ac := A3) (Rc := nR) (Gc := nG) (As := [.int (25 + v5), .int 0, .int (v7 - 1), .int 44]) (rest := []) (Ic1 := I9) (Ac1 := A10) (Rc1 := nR) (Gc1 := nG) (b := ad 99) (C := RX3) ⟨hx, hb, hml, hown, hts⟩ (m_reads_met l D ad hI I2 A3 (25 + v5) 0 (v7 - 1) 44 v8 I9 A10 h10) (g_cwV 4 hts (lw_V q1353 q1355 qs40 q82 q1356) rfl rfl m_reads_ds ⟨Nat.le_trans (Nat.le_of_ble_eq_true rfl) hRf, Nat.le_trans (Nat.le_of_ble_eq_true rfl) hRl⟩) (g_recv hK hW mO rfl) hK hW hS hA hcs rfl hl.1 rfl (Nat.le_of_ble_eq_true rfl) dX3_takesPromise_51 (fun H locs hW _ hS => ?_)
      refine lv_if_eq (tgt := 83) hx hb dX3_takesPromise_54 (by decide) (fun c11 => ?_) (fun c11 => ?_)
      · rw [if_pos c11] at hf
        refine lv_iconst (v := 0) hx hb dX3_takesPromise_83 (by decide) ?_
        obtain ⟨v12, hv12, hf⟩ := ob1_e hf
        obtain ⟨hz, rfl⟩ := zO_e hv12
        obtain ⟨rfl, rfl, rfl⟩ := so3 hf
        exact W.zret hx hb hr (nar_z hz) (fun t ht _ => ⟨rfl, by rw [ht]; exact hW, hS.F ht⟩) hS.2.2 dX3_takesPromise_84
      · rw [if_neg c11] at hf
        refine lv_aload_n hx hb dX3_takesPromise_57 rfl (lv_at hl 2 rfl) ?_
        refine lv_iconst (v := 0) hx hb dX3_takesPromise_58 (by decide) ?_
        refine lv_iload_n hx hb dX3_takesPromise_59 rfl (lv_at hl 0 rfl) ?_
        obtain ⟨v13, I14, A15, h15, hf⟩ := ob3_e hf
        refine g_vW (ov := some (.int v13)) (D := D) (Sc := mS) (adc := ad) (Ic := I9) (Ac := A10) (Rc := nR) (Gc := nG) (As := [.int 0, .int (v7 - 1)]) (rest := []) (Ic1 := I14) (Ac1 := A15) (Rc1 := nR) (Gc1 := nG) (b := ad 99) (C := RX3) ⟨hx, hb, hml, hown, hts⟩ (m_takesNumber_met l D ad hI I9 A10 0 (v7 - 1) v13 I14 A15 h15) (g_cwV 2 hts (lw_V q1357 q1359 qs41 q82 q1360) rfl rfl m_takesNumber_ds ⟨Nat.le_trans (Nat.le_of_ble_eq_true rfl) hRf, Nat.le_trans (Nat.le_of_ble_eq_true rfl) hRl⟩) (g_recv hK hW mO rfl) hK hW hS hA hcs rfl hl.1 rfl (Nat.le_of_ble_eq_true rfl) dX3_takesPromise_60 (fun H locs hW _ hS => ?_)
        refine lv_if_eq (tgt := 83) hx hb dX3_takesPromise_63 (by decide) (fun c16 => ?_) (fun c16 => ?_)
        · rw [if_pos c16] at hf
          refine lv_iconst (v := 0) hx hb dX3_takesPromise_83 (by decide) ?_
          obtain ⟨v17, hv17, hf⟩ := ob1_e hf
          obtain ⟨hz, rfl⟩ := zO_e hv17
          obtain ⟨rfl, rfl, rfl⟩ := so3 hf
          exact W.zret hx hb hr (nar_z hz) (fun t ht _ => ⟨rfl, by rw [ht]; exact hW, hS.F ht⟩) hS.2.2 dX3_takesPromise_84
        · rw [if_neg c16] at hf
          refine lv_aload_n hx hb dX3_takesPromise_66 rfl (lv_at hl 2 rfl) ?_
          refine g_get (v := .int (I14 14)) hx hb hts hown hK hW mO in_X3 rfl 14 (by decide) q1226 rfl rfl dX3_takesPromise_67 ?_
          refine lv_aload_n hx hb dX3_takesPromise_70 rfl (lv_at hl 2 rfl) ?_
          refine g_get (v := .ref (ad 0)) hx hb hts hown hK hW mO in_X3 rfl 0 (by decide) q1212 rfl rfl dX3_takesPromise_71 ?_
          refine lv_sipush (v := 244) hx hb dX3_takesPromise_74 (by decide) ?_
          refine lv_iload_n hx hb dX3_takesPromise_77 rfl (lv_at hl 1 rfl) ?_
          refine lv_iadd hx hb dX3_takesPromise_78 ?_
          obtain ⟨v18, hv18, hf⟩ := ob1_e hf
          refine g_iald hx hb hK hW mA0 hv18 dX3_takesPromise_79 ?_
          refine lv_icmp_ne (tgt := 85) hx hb dX3_takesPromise_80 (by decide) (fun c19 => ?_) (fun c19 => ?_)
          · rw [if_neg c19] at hf
            refine lv_aload_n hx hb dX3_takesPromise_85 rfl (lv_at hl 2 rfl) ?_
            refine g_get (v := .ref (ad 0)) hx hb hts hown hK hW mO in_X3 rfl 0 (by decide) q1212 rfl rfl dX3_takesPromise_86 ?_
            refine lv_sipush (v := 252) hx hb dX3_takesPromise_89 (by decide) ?_
            refine lv_iload_n hx hb dX3_takesPromise_92 rfl (lv_at hl 1 rfl) ?_
            refine lv_iadd hx hb dX3_takesPromise_93 ?_
            refine lv_aload_n hx hb dX3_takesPromise_94 rfl (lv_at hl 2 rfl) ?_
            refine g_get (v := .int (I14 14)) hx hb hts hown hK hW mO in_X3 rfl 14 (by decide) q1226 rfl rfl dX3_takesPromise_95 ?_
            obtain ⟨f20, hf20, hf⟩ := ob1_e hf
            refine g_iast hx hb hK mwf hI hA hW hS mA0 hf20 dX3_takesPromise_98 (fun H locs hW hS => ?_)
            refine lv_aload_n hx hb dX3_takesPromise_99 rfl (lv_at hl 2 rfl) ?_
            refine g_get (v := .ref (ad 0)) hx hb hts hown hK hW mO in_X3 rfl 0 (by decide) q1212 rfl rfl dX3_takesPromise_100 ?_
            refine lv_sipush (v := 226) hx hb dX3_takesPromise_103 (by decide) ?_
            refine lv_dup2_11 hx hb dX3_takesPromise_106 rfl rfl ?_
            obtain ⟨v21, hv21, hf⟩ := ob1_e hf
            refine g_iald hx hb hK hW mA0 hv21 dX3_takesPromise_107 ?_
            refine lv_iconst (v := 1) hx hb dX3_takesPromise_108 (by decide) ?_
            refine lv_iadd hx hb dX3_takesPromise_109 ?_
            obtain ⟨f22, hf22, hf⟩ := ob1_e hf
            refine g_iast hx hb hK mwf hI hA hW hS mA0 hf22 dX3_takesPromise_110 (fun H locs hW hS => ?_)
            refine lv_aload_n hx hb dX3_takesPromise_111 rfl (lv_at hl 2 rfl) ?_
            refine lv_bipush (v := 44) hx hb dX3_takesPromise_112 (by decide) ?_
            obtain ⟨v23, I24, A25, h25, hf⟩ := ob3_e hf
            refine g_vW (ov := some (.int v23)) (D := D) (Sc := mS) (adc := ad) (Ic := I14) (Ac := (va_up (va_up A15 0 f20) 0 f22)) (Rc := nR) (Gc := nG) (As := [.int 44]) (rest := []) (Ic1 := I24) (Ac1 := A25) (Rc1 := nR) (Gc1 := nG) (b := ad 99) (C := RX3) ⟨hx, hb, hml, hown, hts⟩ (m_takes_met l D ad hI I14 (va_up (va_up A15 0 f20) 0 f22) 44 v23 I24 A25 h25) (g_cwV 1 hts (lw_V q1345 q1347 qs38 q82 q1348) rfl rfl m_takes_ds ⟨Nat.le_trans (Nat.le_of_ble_eq_true rfl) hRf, Nat.le_trans (Nat.le_of_ble_eq_true rfl) hRl⟩) (g_recv hK hW mO rfl) hK hW hS hA hcs rfl hl.1 rfl (Nat.le_of_ble_eq_true rfl) dX3_takesPromise_114 (fun H locs hW _ hS => ?_)
            obtain ⟨v26, I27, A28, hm28, hf⟩ := ob3_e hf
            refine w_cutH (A0 := frS mS ad) (H0 := s.heap) (X := WH D mS ad I27 A28 nR nG) (nL := 3) (L := []) (pcj := 172) (st := [.int v26]) (fun H locs ls hW hS hl => ?_) (fun K28 => ?_)
            · obtain ⟨v42, hv42, hf⟩ := ob1_e hf
              obtain ⟨hz, rfl⟩ := zO_e hv42
              obtain ⟨rfl, rfl, rfl⟩ := so3 hf
              exact W.zret hx hb hr (nar_z hz) (fun t ht _ => ⟨rfl, by rw [ht]; exact hW, hS.F ht⟩) hS.2.2 dX3_takesPromise_172
            · refine lv_if_eq (tgt := 171) hx hb dX3_takesPromise_117 (by decide) (fun c29 => ?_) (fun c29 => ?_)
              · rw [if_pos c29] at hm28
                refine lv_iconst (v := 0) hx hb dX3_takesPromise_171 (by decide) ?_
                obtain ⟨rfl, rfl, rfl⟩ := so3 hm28
                exact K28 _ _ ls hW hS (lv_sub hl [] rfl)
              · rw [if_neg c29] at hm28
                refine lv_aload_n hx hb dX3_takesPromise_120 rfl (lv_at hl 2 rfl) ?_
                refine lv_bipush (v := 41) hx hb dX3_takesPromise_121 (by decide) ?_
                refine lv_iload_n hx hb dX3_takesPromise_123 rfl (lv_at hl 1 rfl) ?_
                refine lv_iadd hx hb dX3_takesPromise_124 ?_
                refine lv_iconst (v := 1) hx hb dX3_takesPromise_125 (by decide) ?_
                refine lv_bipush (v := 20) hx hb dX3_takesPromise_126 (by decide) ?_
                refine lv_bipush (v := 44) hx hb dX3_takesPromise_128 (by decide) ?_
                obtain ⟨v30, I31, A32, h32, hm28⟩ := ob3_e hm28
                refine g_vW (ov := some (.int v30)) (D := D) (Sc := mS) (adc := ad) (Ic := I24) (Ac := A25) (Rc := nR) (Gc := nG) (As := [.int (41 + v5), .int 1, .int 20, .int 44]) (rest := []) (Ic1 := I31) (Ac1 := A32) (Rc1 := nR) (Gc1 := nG) (b := ad 99) (C := RX3) ⟨hx, hb, hml, hown, hts⟩ (m_reads_met l D ad hI I24 A25 (41 + v5) 1 20 44 v30 I31 A32 h32) (g_cwV 4 hts (lw_V q1353 q1355 qs40 q82 q1356) rfl rfl m_reads_ds ⟨Nat.le_trans (Nat.le_of_ble_eq_true rfl) hRf, Nat.le_trans (Nat.le_of_ble_eq_true rfl) hRl⟩) (g_recv hK hW mO rfl) hK hW hS hA hcs rfl hl.1 rfl (Nat.le_of_ble_eq_true rfl) dX3_takesPromise_130 (fun H locs hW _ hS => ?_)
                refine lv_if_eq (tgt := 171) hx hb dX3_takesPromise_133 (by decide) (fun c33 => ?_) (fun c33 => ?_)
                · rw [if_pos c33] at hm28
                  refine lv_iconst (v := 0) hx hb dX3_takesPromise_171 (by decide) ?_
                  obtain ⟨rfl, rfl, rfl⟩ := so3 hm28
                  exact K28 _ _ ls hW hS (lv_sub hl [] rfl)
                · rw [if_neg c33] at hm28
                  refine lv_aload_n hx hb dX3_takesPromise_136 rfl (lv_at hl 2 rfl) ?_
                  refine lv_bipush (v := 49) hx hb dX3_takesPromise_137 (by decide) ?_
                  refine lv_iload_n hx hb dX3_takesPromise_139 rfl (lv_at hl 1 rfl) ?_
                  refine lv_iadd hx hb dX3_takesPromise_140 ?_
                  refine lv_iconst (v := 0) hx hb dX3_takesPromise_141 (by decide) ?_
                  refine lv_bipush (v := 99) hx hb dX3_takesPromise_142 (by decide) ?_
                  refine lv_bipush (v := 44) hx hb dX3_takesPromise_144 (by decide) ?_
                  obtain ⟨v34, I35, A36, h36, hm28⟩ := ob3_e hm28
                  refine g_vW (ov := some (.int v34)) (D := D) (Sc := mS) (adc := ad) (Ic := I31) (Ac := A32) (Rc := nR) (Gc := nG) (As := [.int (49 + v5), .int 0, .int 99, .int 44]) (rest := []) (Ic1 := I35) (Ac1 := A36) (Rc1 := nR) (Gc1 := nG) (b := ad 99) (C := RX3) ⟨hx, hb, hml, hown, hts⟩ (m_reads_met l D ad hI I31 A32 (49 + v5) 0 99 44 v34 I35 A36 h36) (g_cwV 4 hts (lw_V q1353 q1355 qs40 q82 q1356) rfl rfl m_reads_ds ⟨Nat.le_trans (Nat.le_of_ble_eq_true rfl) hRf, Nat.le_trans (Nat.le_of_ble_eq_true rfl) hRl⟩) (g_recv hK hW mO rfl) hK hW hS hA hcs rfl hl.1 rfl (Nat.le_of_ble_eq_true rfl) dX3_takesPromise_146 (fun H locs hW _ hS => ?_)
                  refine lv_if_eq (tgt := 171) hx hb dX3_takesPromise_149 (by decide) (fun c37 => ?_) (fun c37 => ?_)
                  · rw [if_pos c37] at hm28
                    refine lv_iconst (v := 0) hx hb dX3_takesPromise_171 (by decide) ?_
                    obtain ⟨rfl, rfl, rfl⟩ := so3 hm28
                    exact K28 _ _ ls hW hS (lv_sub hl [] rfl)
                  · rw [if_neg c37] at hm28
                    refine lv_aload_n hx hb dX3_takesPromise_152 rfl (lv_at hl 2 rfl) ?_
                    refine lv_bipush (v := 57) hx hb dX3_takesPromise_153 (by decide) ?_
                    refine lv_iload_n hx hb dX3_takesPromise_155 rfl (lv_at hl 1 rfl) ?_
                    refine lv_iadd hx hb dX3_takesPromise_156 ?_
                    refine lv_iconst (v := 0) hx hb dX3_takesPromise_157 (by decide) ?_
                    refine lv_iconst (v := 5) hx hb dX3_takesPromise_158 (by decide) ?_
                    refine lv_bipush (v := 59) hx hb dX3_takesPromise_159 (by decide) ?_
                    obtain ⟨v38, I39, A40, h40, hm28⟩ := ob3_e hm28
                    refine g_vW (ov := some (.int v38)) (D := D) (Sc := mS) (adc := ad) (Ic := I35) (Ac := A36) (Rc := nR) (Gc := nG) (As := [.int (57 + v5), .int 0, .int 5, .int 59]) (rest := []) (Ic1 := I39) (Ac1 := A40) (Rc1 := nR) (Gc1 := nG) (b := ad 99) (C := RX3) ⟨hx, hb, hml, hown, hts⟩ (m_reads_met l D ad hI I35 A36 (57 + v5) 0 5 59 v38 I39 A40 h40) (g_cwV 4 hts (lw_V q1353 q1355 qs40 q82 q1356) rfl rfl m_reads_ds ⟨Nat.le_trans (Nat.le_of_ble_eq_true rfl) hRf, Nat.le_trans (Nat.le_of_ble_eq_true rfl) hRl⟩) (g_recv hK hW mO rfl) hK hW hS hA hcs rfl hl.1 rfl (Nat.le_of_ble_eq_true rfl) dX3_takesPromise_161 (fun H locs hW _ hS => ?_)
                    refine lv_if_eq (tgt := 171) hx hb dX3_takesPromise_164 (by decide) (fun c41 => ?_) (fun c41 => ?_)
                    · rw [if_pos c41] at hm28
                      refine lv_iconst (v := 0) hx hb dX3_takesPromise_171 (by decide) ?_
                      obtain ⟨rfl, rfl, rfl⟩ := so3 hm28
                      exact K28 _ _ ls hW hS (lv_sub hl [] rfl)
                    · rw [if_neg c41] at hm28
                      refine lv_iconst (v := 1) hx hb dX3_takesPromise_167 (by decide) ?_
                      refine lv_goto (tgt := 172) hx hb dX3_takesPromise_168 (by decide) ?_
                      obtain ⟨rfl, rfl, rfl⟩ := so3 hm28
                      exact K28 _ _ ls hW hS (lv_sub hl [] rfl)
          · rw [if_pos c19] at hf
            refine lv_iconst (v := 0) hx hb dX3_takesPromise_83 (by decide) ?_
            obtain ⟨v43, hv43, hf⟩ := ob1_e hf
            obtain ⟨hz, rfl⟩ := zO_e hv43
            obtain ⟨rfl, rfl, rfl⟩ := so3 hf
            exact W.zret hx hb hr (nar_z hz) (fun t ht _ => ⟨rfl, by rw [ht]; exact hW, hS.F ht⟩) hS.2.2 dX3_takesPromise_84
    · rw [if_pos c6] at hf
      refine lv_aload_n hx hb dX3_takesPromise_26 rfl (lv_at hl 1 rfl) ?_
      obtain ⟨v44, I45, A46, h46, hf⟩ := ob3_e hf
      refine g_vW (ov := some (.int v44)) (D := D) (Sc := mS) (adc := ad) (Ic := I2) (Ac := A3) (Rc := nR) (Gc := nG) (As := []) (rest := []) (Ic1 := I45) (Ac1 := A46) (Rc1 := nR) (Gc1 := nG) (b := ad 99) (C := RX3) ⟨hx, hb, hml, hown, hts⟩ (m_isMore_met l D ad hI I2 A3  v44 I45 A46 h46) (g_cwV 0 hts (lw_V q1374 q1376 qs44 q82 q1377) rfl rfl m_isMore_ds ⟨Nat.le_trans (Nat.le_of_ble_eq_true rfl) hRf, Nat.le_trans (Nat.le_of_ble_eq_true rfl) hRl⟩) (g_recv hK hW mO rfl) hK hW hS hA hcs rfl hl.1 rfl (Nat.le_of_ble_eq_true rfl) dX3_takesPromise_27 (fun H locs hW _ hS => ?_)
      obtain ⟨v47, hv47, hf⟩ := ob1_e hf
      obtain ⟨hz, rfl⟩ := zO_e hv47
      obtain ⟨rfl, rfl, rfl⟩ := so3 hf
      exact W.zret hx hb hr (nar_z hz) (fun t ht _ => ⟨rfl, by rw [ht]; exact hW, hS.F ht⟩) hS.2.2 dX3_takesPromise_30
  · rw [if_pos c4] at hf
    refine lv_iconst (v := 0) hx hb dX3_takesPromise_9 (by decide) ?_
    obtain ⟨v48, hv48, hf⟩ := ob1_e hf
    obtain ⟨hz, rfl⟩ := zO_e hv48
    obtain ⟨rfl, rfl, rfl⟩ := so3 hf
    exact W.zret hx hb hr (nar_z hz) (fun t ht _ => ⟨rfl, by rw [ht]; exact hW, hS.F ht⟩) hS.2.2 dX3_takesPromise_10
theorem m_takesPromise_ds : yX3_takesPromise.cls = RX3 ∧ yX3_takesPromise.cls ≠ "java/lang/invoke/MethodHandle" ∧ yX3_takesPromise.cls ≠ "java/lang/invoke/VarHandle" ∧ (parseMethodDescriptor yX3_takesPromise.desc).map (fun d => d.parameters.length) = some 0 := by decide +kernel
/-! isParish -/
def m_isParish_L2 : Nat → (Nat → Int32) → (Nat → Nat → Int32) → Int32 → Option ((Nat → Int32) × (Nat → Nat → Int32) × Int32)
  | 0, _, _, _ => none
  | n + 1, I, A, x1 =>
    if 73 ≤ x1 then (some (I, A, x1)) else (ob1 (stO (A 0) 2044 (219 + x1) 0) fun (f2 : Nat → Int32) =>
      m_isParish_L2 n I (va_up A 0 f2) (x1 + 1))
set_option maxRecDepth 100000 in
set_option maxHeartbeats 4000000 in
theorem m_isParish_L2_w {p : Program} {l : Launch} {e : Env} {R0 : Room} {s : State} {m : MethodId} {args : Array Value} {below : List Frame} {meth : Method} {c : Code} {cells slots : Nat} {Q : State → Prop} {D : dd_} {ad : Nat → Nat} (hx : p.tables.exec = Jvm.exec) (hb : c.code = cX3_isParish) (hml : c.maxLocals = 2) (hown : s.vm.findClass RX3 = some m.cls) (hts : ∀ w ∈ lw_all, w.before args s = true) (hK : Kx D s) (hRf : 6 ≤ R0.frames) (hRl : 131 ≤ R0.locals) (hcs : cells ≤ R0.cells ∧ slots ≤ R0.slots) (hI : Inj mS ad) (I9 : (Nat → Int32)) (A9 : (Nat → Nat → Int32)) (y1 : Int32) (KX : ∀ (H : Heap) (locs : List Loc) (ls : Array Slot), WH D mS ad I9 A9 nR nG H → va_S (frS mS ad) s.heap H locs → lv_has ls 2 [(0, .ref (ad 99))] → W p l e R0 s m args below meth c H locs cells slots Q (F0 m 25 ls [])) : ∀ (n : Nat) (I : (Nat → Int32)) (A : (Nat → Nat → Int32)) (x1 : Int32) (H : Heap) (locs : List Loc) (ls : Array Slot), m_isParish_L2 n I A x1 = some (I9, A9, y1) → WH D mS ad I A nR nG H → va_S (frS mS ad) s.heap H locs → lv_has ls 2 [(0, .ref (ad 99)), (1, .int x1)] → W p l e R0 s m args below meth c H locs cells slots Q (F0 m 2 ls []) := by
  intro n
  have hA : ∀ i ∈ idxS mS, frS mS ad (ad i) := fun i hi => ⟨i, hi, rfl⟩
  induction n with
  | zero =>
    intro I A x1 H locs ls hf
    exact nomatch (show (none : Option ((Nat → Int32) × (Nat → Nat → Int32) × Int32)) = some (I9, A9, y1) from hf)
  | succ n ih =>
    intro I A x1 H locs ls hf hW hS hl
    have hf : (if 73 ≤ x1 then (some (I, A, x1)) else (ob1 (stO (A 0) 2044 (219 + x1) 0) fun (f2 : Nat → Int32) =>
          m_isParish_L2 n I (va_up A 0 f2) (x1 + 1))) = some (I9, A9, y1) := hf
    refine lv_iload_n hx hb dX3_isParish_2 rfl (lv_at hl 1 rfl) ?_
    refine lv_bipush (v := 73) hx hb dX3_isParish_3 (by decide) ?_
    refine lv_icmp_ge (tgt := 25) hx hb dX3_isParish_5 (by decide) (fun c1 => ?_) (fun c1 => ?_)
    · rw [if_pos c1] at hf
      obtain ⟨rfl, rfl, rfl⟩ := so3 hf
      exact KX _ _ ls hW hS (lv_sub hl [0] rfl)
    · rw [if_neg c1] at hf
      refine lv_aload_n hx hb dX3_isParish_8 rfl (lv_at hl 0 rfl) ?_
      refine g_get (v := .ref (ad 0)) hx hb hts hown hK hW mO in_X3 rfl 0 (by decide) q1212 rfl rfl dX3_isParish_9 ?_
      refine lv_sipush (v := 219) hx hb dX3_isParish_12 (by decide) ?_
      refine lv_iload_n hx hb dX3_isParish_15 rfl (lv_at hl 1 rfl) ?_
      refine lv_iadd hx hb dX3_isParish_16 ?_
      refine lv_iconst (v := 0) hx hb dX3_isParish_17 (by decide) ?_
      obtain ⟨f2, hf2, hf⟩ := ob1_e hf
      refine g_iast hx hb hK mwf hI hA hW hS mA0 hf2 dX3_isParish_18 (fun H locs hW hS => ?_)
      refine lv_iinc (v := x1 + 1) (lv' := [(1, .int (x1 + 1)), (0, .ref (ad 99))]) hx hb dX3_isParish_19 hl (k := 1) rfl (by rfl) (by decide) rfl (fun ls hl => ?_)
      refine lv_goto (tgt := 2) hx hb dX3_isParish_22 (by decide) ?_
      exact ih I (va_up A 0 f2) (x1 + 1) _ _ ls hf hW hS (lv_sub hl [1, 0] rfl)
def m_isParish_L50 : Nat → (Nat → Int32) → (Nat → Nat → Int32) → Int32 → Option ((Nat → Int32) × (Nat → Nat → Int32) × Int32)
  | 0, _, _, _ => none
  | n + 1, I, A, x1 =>
    if x1 = 0 then (some (I, A, x1)) else (ob1 (m_byteAt I A (I 11)) fun (v2 : Int32) =>
      ob1 (m_sortOf v2) fun (v3 : Int32) =>
      if v3 ≤ 0 then (some (I, A, x1)) else (ob3 (m_takesPerson I A ) fun (v5 : Int32) (I6 : Nat → Int32) (A7 : Nat → Nat → Int32) =>
        m_isParish_L50 n I6 A7 v5))
set_option maxRecDepth 100000 in
set_option maxHeartbeats 4000000 in
theorem m_isParish_L50_w {p : Program} {l : Launch} {e : Env} {R0 : Room} {s : State} {m : MethodId} {args : Array Value} {below : List Frame} {meth : Method} {c : Code} {cells slots : Nat} {Q : State → Prop} {D : dd_} {ad : Nat → Nat} (hx : p.tables.exec = Jvm.exec) (hb : c.code = cX3_isParish) (hml : c.maxLocals = 2) (hown : s.vm.findClass RX3 = some m.cls) (hts : ∀ w ∈ lw_all, w.before args s = true) (hK : Kx D s) (hRf : 6 ≤ R0.frames) (hRl : 131 ≤ R0.locals) (hcs : cells ≤ R0.cells ∧ slots ≤ R0.slots) (hI : Inj mS ad) (I9 : (Nat → Int32)) (A9 : (Nat → Nat → Int32)) (y1 : Int32) (KX : ∀ (H : Heap) (locs : List Loc) (ls : Array Slot), WH D mS ad I9 A9 nR nG H → va_S (frS mS ad) s.heap H locs → lv_has ls 2 [(0, .ref (ad 99)), (1, .int y1)] → W p l e R0 s m args below meth c H locs cells slots Q (F0 m 76 ls [])) : ∀ (n : Nat) (I : (Nat → Int32)) (A : (Nat → Nat → Int32)) (x1 : Int32) (H : Heap) (locs : List Loc) (ls : Array Slot), m_isParish_L50 n I A x1 = some (I9, A9, y1) → WH D mS ad I A nR nG H → va_S (frS mS ad) s.heap H locs → lv_has ls 2 [(0, .ref (ad 99)), (1, .int x1)] → W p l e R0 s m args below meth c H locs cells slots Q (F0 m 50 ls []) := by
  intro n
  have hA : ∀ i ∈ idxS mS, frS mS ad (ad i) := fun i hi => ⟨i, hi, rfl⟩
  induction n with
  | zero =>
    intro I A x1 H locs ls hf
    exact nomatch (show (none : Option ((Nat → Int32) × (Nat → Nat → Int32) × Int32)) = some (I9, A9, y1) from hf)
  | succ n ih =>
    intro I A x1 H locs ls hf hW hS hl
    have hf : (if x1 = 0 then (some (I, A, x1)) else (ob1 (m_byteAt I A (I 11)) fun (v2 : Int32) =>
          ob1 (m_sortOf v2) fun (v3 : Int32) =>
          if v3 ≤ 0 then (some (I, A, x1)) else (ob3 (m_takesPerson I A ) fun (v5 : Int32) (I6 : Nat → Int32) (A7 : Nat → Nat → Int32) =>
            m_isParish_L50 n I6 A7 v5))) = some (I9, A9, y1) := hf
    refine lv_iload_n hx hb dX3_isParish_50 rfl (lv_at hl 1 rfl) ?_
    refine lv_if_eq (tgt := 76) hx hb dX3_isParish_51 (by decide) (fun c1 => ?_) (fun c1 => ?_)
    · rw [if_pos c1] at hf
      obtain ⟨rfl, rfl, rfl⟩ := so3 hf
      exact KX _ _ ls hW hS (lv_sub hl [0, 1] rfl)
    · rw [if_neg c1] at hf
      refine lv_aload_n hx hb dX3_isParish_54 rfl (lv_at hl 0 rfl) ?_
      refine lv_aload_n hx hb dX3_isParish_55 rfl (lv_at hl 0 rfl) ?_
      refine g_get (v := .int (I 11)) hx hb hts hown hK hW mO in_X3 rfl 11 (by decide) q1223 rfl rfl dX3_isParish_56 ?_
      obtain ⟨v2, h2, hf⟩ := ob1_e hf
      refine g_vR (ov := some (.int v2)) (D := D) (Sc := mS) (adc := ad) (Ic := I) (Ac := A) (Rc := nR) (Gc := nG) (As := [.int (I 11)]) (rest := []) (b := ad 99) (C := RX3) ⟨hx, hb, hml, hown, hts⟩ (m_byteAt_met l D ad I A (I 11) v2 h2) (g_cwV 1 hts (lw_V q1349 q1351 qs39 q82 q1352) rfl rfl m_byteAt_ds ⟨Nat.le_trans (Nat.le_of_ble_eq_true rfl) hRf, Nat.le_trans (Nat.le_of_ble_eq_true rfl) hRl⟩) (g_recv hK hW mO rfl) hK hW hcs rfl hl.1 rfl (Nat.le_of_ble_eq_true rfl) dX3_isParish_59 ?_
      obtain ⟨v3, h3, hf⟩ := ob1_e hf
      refine g_sR (ov := some (.int v3)) (D := D) (Sc := nS) (adc := ad) (Ic := (fun _ => 0)) (Ac := (fun _ _ => 0)) (Rc := nR) (Gc := nG) (As := [.int v2]) (rest := []) ⟨hx, hb, hml, hown, hts⟩ (m_sortOf_met l D ad v2 v3 h3) (va_cwS 1 hts (lw_S q1371 q1372 q82 q1373) rfl rfl rfl m_sortOf_ds.2 ⟨Nat.le_trans (Nat.le_of_ble_eq_true rfl) hRf, Nat.le_trans (Nat.le_of_ble_eq_true rfl) hRl⟩) hK WH_nil hcs rfl hl.1 rfl (Nat.le_of_ble_eq_true rfl) dX3_isParish_62 ?_
      refine lv_if_le (tgt := 76) hx hb dX3_isParish_65 (by decide) (fun c4 => ?_) (fun c4 => ?_)
      · rw [if_pos c4] at hf
        obtain ⟨rfl, rfl, rfl⟩ := so3 hf
        exact KX _ _ ls hW hS (lv_sub hl [0, 1] rfl)
      · rw [if_neg c4] at hf
        refine lv_aload_n hx hb dX3_isParish_68 rfl (lv_at hl 0 rfl) ?_
        obtain ⟨v5, I6, A7, h7, hf⟩ := ob3_e hf
        refine g_vW (ov := some (.int v5)) (D := D) (Sc := mS) (adc := ad) (Ic := I) (Ac := A) (Rc := nR) (Gc := nG) (As := []) (rest := []) (Ic1 := I6) (Ac1 := A7) (Rc1 := nR) (Gc1 := nG) (b := ad 99) (C := RX3) ⟨hx, hb, hml, hown, hts⟩ (m_takesPerson_met l D ad hI I A  v5 I6 A7 h7) (g_cwV 0 hts (lw_V q1367 q1369 qs43 q82 q1370) rfl rfl m_takesPerson_ds ⟨Nat.le_trans (Nat.le_of_ble_eq_true rfl) hRf, Nat.le_trans (Nat.le_of_ble_eq_true rfl) hRl⟩) (g_recv hK hW mO rfl) hK hW hS hA hcs rfl hl.1 rfl (Nat.le_of_ble_eq_true rfl) dX3_isParish_69 (fun H locs hW _ hS => ?_)
        refine lv_istore_n (lv' := [(1, .int v5), (0, .ref (ad 99))]) hx hb dX3_isParish_72 rfl hl (by decide) rfl (fun ls hl => ?_)
        refine lv_goto (tgt := 50) hx hb dX3_isParish_73 (by decide) ?_
        exact ih I6 A7 v5 _ _ ls hf hW hS (lv_sub hl [1, 0] rfl)
def m_isParish_L76 : Nat → (Nat → Int32) → (Nat → Nat → Int32) → Int32 → Option ((Nat → Int32) × (Nat → Nat → Int32) × Int32)
  | 0, _, _, _ => none
  | n + 1, I, A, x1 =>
    if x1 = 0 then (some (I, A, x1)) else (if (I 9) ≤ (I 11) then (some (I, A, x1)) else (ob3 (m_takesPromise I A ) fun (v3 : Int32) (I4 : Nat → Int32) (A5 : Nat → Nat → Int32) =>
        m_isParish_L76 n I4 A5 v3))
set_option maxRecDepth 100000 in
set_option maxHeartbeats 4000000 in
theorem m_isParish_L76_w {p : Program} {l : Launch} {e : Env} {R0 : Room} {s : State} {m : MethodId} {args : Array Value} {below : List Frame} {meth : Method} {c : Code} {cells slots : Nat} {Q : State → Prop} {D : dd_} {ad : Nat → Nat} (hx : p.tables.exec = Jvm.exec) (hb : c.code = cX3_isParish) (hml : c.maxLocals = 2) (hown : s.vm.findClass RX3 = some m.cls) (hts : ∀ w ∈ lw_all, w.before args s = true) (hK : Kx D s) (hRf : 6 ≤ R0.frames) (hRl : 131 ≤ R0.locals) (hcs : cells ≤ R0.cells ∧ slots ≤ R0.slots) (hI : Inj mS ad) (I9 : (Nat → Int32)) (A9 : (Nat → Nat → Int32)) (y1 : Int32) (KX : ∀ (H : Heap) (locs : List Loc) (ls : Array Slot), WH D mS ad I9 A9 nR nG H → va_S (frS mS ad) s.heap H locs → lv_has ls 2 [(1, .int y1)] → W p l e R0 s m args below meth c H locs cells slots Q (F0 m 99 ls [])) : ∀ (n : Nat) (I : (Nat → Int32)) (A : (Nat → Nat → Int32)) (x1 : Int32) (H : Heap) (locs : List Loc) (ls : Array Slot), m_isParish_L76 n I A x1 = some (I9, A9, y1) → WH D mS ad I A nR nG H → va_S (frS mS ad) s.heap H locs → lv_has ls 2 [(0, .ref (ad 99)), (1, .int x1)] → W p l e R0 s m args below meth c H locs cells slots Q (F0 m 76 ls []) := by
  intro n
  have hA : ∀ i ∈ idxS mS, frS mS ad (ad i) := fun i hi => ⟨i, hi, rfl⟩
  induction n with
  | zero =>
    intro I A x1 H locs ls hf
    exact nomatch (show (none : Option ((Nat → Int32) × (Nat → Nat → Int32) × Int32)) = some (I9, A9, y1) from hf)
  | succ n ih =>
    intro I A x1 H locs ls hf hW hS hl
    have hf : (if x1 = 0 then (some (I, A, x1)) else (if (I 9) ≤ (I 11) then (some (I, A, x1)) else (ob3 (m_takesPromise I A ) fun (v3 : Int32) (I4 : Nat → Int32) (A5 : Nat → Nat → Int32) =>
            m_isParish_L76 n I4 A5 v3))) = some (I9, A9, y1) := hf
    refine lv_iload_n hx hb dX3_isParish_76 rfl (lv_at hl 1 rfl) ?_
    refine lv_if_eq (tgt := 99) hx hb dX3_isParish_77 (by decide) (fun c1 => ?_) (fun c1 => ?_)
    · rw [if_pos c1] at hf
      obtain ⟨rfl, rfl, rfl⟩ := so3 hf
      exact KX _ _ ls hW hS (lv_sub hl [1] rfl)
    · rw [if_neg c1] at hf
      refine lv_aload_n hx hb dX3_isParish_80 rfl (lv_at hl 0 rfl) ?_
      refine g_get (v := .int (I 11)) hx hb hts hown hK hW mO in_X3 rfl 11 (by decide) q1223 rfl rfl dX3_isParish_81 ?_
      refine lv_aload_n hx hb dX3_isParish_84 rfl (lv_at hl 0 rfl) ?_
      refine g_get (v := .int (I 9)) hx hb hts hown hK hW mO in_X3 rfl 9 (by decide) q1221 rfl rfl dX3_isParish_85 ?_
      refine lv_icmp_ge (tgt := 99) hx hb dX3_isParish_88 (by decide) (fun c2 => ?_) (fun c2 => ?_)
      · rw [if_pos c2] at hf
        obtain ⟨rfl, rfl, rfl⟩ := so3 hf
        exact KX _ _ ls hW hS (lv_sub hl [1] rfl)
      · rw [if_neg c2] at hf
        refine lv_aload_n hx hb dX3_isParish_91 rfl (lv_at hl 0 rfl) ?_
        obtain ⟨v3, I4, A5, h5, hf⟩ := ob3_e hf
        refine g_vW (ov := some (.int v3)) (D := D) (Sc := mS) (adc := ad) (Ic := I) (Ac := A) (Rc := nR) (Gc := nG) (As := []) (rest := []) (Ic1 := I4) (Ac1 := A5) (Rc1 := nR) (Gc1 := nG) (b := ad 99) (C := RX3) ⟨hx, hb, hml, hown, hts⟩ (m_takesPromise_met l D ad hI I A  v3 I4 A5 h5) (g_cwV 0 hts (lw_V q1378 q1380 qs45 q82 q1381) rfl rfl m_takesPromise_ds ⟨Nat.le_trans (Nat.le_of_ble_eq_true rfl) hRf, Nat.le_trans (Nat.le_of_ble_eq_true rfl) hRl⟩) (g_recv hK hW mO rfl) hK hW hS hA hcs rfl hl.1 rfl (Nat.le_of_ble_eq_true rfl) dX3_isParish_92 (fun H locs hW _ hS => ?_)
        refine lv_istore_n (lv' := [(1, .int v3), (0, .ref (ad 99))]) hx hb dX3_isParish_95 rfl hl (by decide) rfl (fun ls hl => ?_)
        refine lv_goto (tgt := 76) hx hb dX3_isParish_96 (by decide) ?_
        exact ih I4 A5 v3 _ _ ls hf hW hS (lv_sub hl [1, 0] rfl)
def m_isParish (I : Nat → Int32) (A : Nat → Nat → Int32) : Option (Int32 × (Nat → Int32) × (Nat → Nat → Int32)) :=
  ob3 (m_isParish_L2 NF I A 0) fun (I1 : Nat → Int32) (A2 : Nat → Nat → Int32) (v3 : Int32) =>
  ob3 (m_takesLaw (upd I1 11 0) A2 ) fun (v4 : Int32) (I5 : Nat → Int32) (A6 : Nat → Nat → Int32) =>
  ob3 (if v4 = 0 then ((some (0, I5, A6) : Option (Int32 × (Nat → Int32) × (Nat → Nat → Int32)))) else (ob3 (m_takesPerson I5 A6 ) fun (v11 : Int32) (I12 : Nat → Int32) (A13 : Nat → Nat → Int32) =>
      if v11 = 0 then ((some (0, I12, A13) : Option (Int32 × (Nat → Int32) × (Nat → Nat → Int32)))) else ((some (1, I12, A13) : Option (Int32 × (Nat → Int32) × (Nat → Nat → Int32)))))) fun (v7 : Int32) (I8 : Nat → Int32) (A9 : Nat → Nat → Int32) =>
  ob3 (m_isParish_L50 NF I8 A9 v7) fun (I15 : Nat → Int32) (A16 : Nat → Nat → Int32) (v17 : Int32) =>
  ob3 (m_isParish_L76 NF I15 A16 v17) fun (I18 : Nat → Int32) (A19 : Nat → Nat → Int32) (v20 : Int32) =>
  ob1 (zO v20) fun (v21 : Int32) =>
  some (v21, I18, A19)
set_option maxRecDepth 100000 in
set_option maxHeartbeats 4000000 in
theorem m_isParish_met (l : Launch) (D : dd_) (ad : Nat → Nat) (hI : Inj mS ad) (I : Nat → Int32) (A : Nat → Nat → Int32) (r : Int32) (I1 : (Nat → Int32)) (A1 : (Nat → Nat → Int32)) (hf : m_isParish I A  = some (r, I1, A1)) : Met l yX3_isParish (ws_ yX3_isParish cX3_isParish 2 (some .boolean)) ({ frames := 6, cells := 0, slots := 0, locals := 131 }) (PcW D mS ad I A nR nG [.ref (ad 99)]) (QcW D mS ad I1 A1 nR nG (some (.int r))) 0 0 (frS mS ad) := by
  refine Met.ofW (cc := cX3_isParish) (maxL := 2) (ret := (some .boolean)) (by decide) rfl ?_
  intro p e s m args below meth c s₁ B hml hv
  obtain ⟨rfl, hK, hW⟩ := hv
  have hx := B.exec
  have hb := B.bytes
  have hr := B.returns
  have hts := atoms_spec (ws := (ws_ yX3_isParish cX3_isParish 2 (some .boolean))) B.pre
  have hts : ∀ w ∈ lw_all, w.before _ s = true := fun w h => hts w (List.mem_cons_of_mem _ h)
  have hown : s.vm.findClass RX3 = some m.cls := findClass_of_methodNamed B.named
  have hlocks := B.notSynchronized
  have hRf : 6 ≤ (headSpec (ws_ yX3_isParish cX3_isParish 2 (some .boolean)) ({ frames := 6, cells := 0, slots := 0, locals := 131 })).room.frames := Nat.le_refl _
  have hRl : 131 ≤ (headSpec (ws_ yX3_isParish cX3_isParish 2 (some .boolean)) ({ frames := 6, cells := 0, slots := 0, locals := 131 })).room.locals := Nat.le_refl _
  have hcs : 0 ≤ (headSpec (ws_ yX3_isParish cX3_isParish 2 (some .boolean)) ({ frames := 6, cells := 0, slots := 0, locals := 131 })).room.cells ∧ 0 ≤ (headSpec (ws_ yX3_isParish cX3_isParish 2 (some .boolean)) ({ frames := 6, cells := 0, slots := 0, locals := 131 })).room.slots := ⟨Nat.zero_le _, Nat.zero_le _⟩
  have hA : ∀ i ∈ idxS mS, frS mS ad (ad i) := fun i hi => ⟨i, hi, rfl⟩
  have hS : va_S (frS mS ad) s.heap s.heap [] := va_S.rf
  have hl := lv_entry ([.ref (ad 99)]) (n := 2) (Nat.le_of_ble_eq_true rfl)
  rw [lg_entry_eq]
  generalize (lg_sl ([.ref (ad 99)]) ++ List.replicate (2 - (lg_sl ([.ref (ad 99)])).length) Slot.unset).toArray = ls at hl ⊢
  have hl : lv_has ls 2 [(0, .ref (ad 99))] := hl
  have hf : (ob3 (m_isParish_L2 NF I A 0) fun (I1 : Nat → Int32) (A2 : Nat → Nat → Int32) (v3 : Int32) =>
    ob3 (m_takesLaw (upd I1 11 0) A2 ) fun (v4 : Int32) (I5 : Nat → Int32) (A6 : Nat → Nat → Int32) =>
    ob3 (if v4 = 0 then ((some (0, I5, A6) : Option (Int32 × (Nat → Int32) × (Nat → Nat → Int32)))) else (ob3 (m_takesPerson I5 A6 ) fun (v11 : Int32) (I12 : Nat → Int32) (A13 : Nat → Nat → Int32) =>
        if v11 = 0 then ((some (0, I12, A13) : Option (Int32 × (Nat → Int32) × (Nat → Nat → Int32)))) else ((some (1, I12, A13) : Option (Int32 × (Nat → Int32) × (Nat → Nat → Int32)))))) fun (v7 : Int32) (I8 : Nat → Int32) (A9 : Nat → Nat → Int32) =>
    ob3 (m_isParish_L50 NF I8 A9 v7) fun (I15 : Nat → Int32) (A16 : Nat → Nat → Int32) (v17 : Int32) =>
    ob3 (m_isParish_L76 NF I15 A16 v17) fun (I18 : Nat → Int32) (A19 : Nat → Nat → Int32) (v20 : Int32) =>
    ob1 (zO v20) fun (v21 : Int32) =>
    some (v21, I18, A19)) = some (r, I1, A1) := hf
  refine lv_iconst (v := 0) hx hb dX3_isParish_0 (by decide) ?_
  refine lv_istore_n (lv' := [(1, .int 0), (0, .ref (ad 99))]) hx hb dX3_isParish_1 rfl hl (by decide) rfl (fun ls hl => ?_)
  obtain ⟨I1, A2, v3, hq3, hf⟩ := ob3_e hf
  refine m_isParish_L2_w hx hb hml hown hts hK hRf hRl hcs hI I1 A2 v3 (fun H locs ls hW hS hl => ?_) NF I A 0 _ _ ls hq3 hW hS (lv_sub hl [1, 0] rfl)
  refine lv_aload_n hx hb dX3_isParish_25 rfl (lv_at hl 0 rfl) ?_
  refine lv_iconst (v := 0) hx hb dX3_isParish_26 (by decide) ?_
  refine g_putI hx hb hts hown hK mwf hI hA hW hS mO in_X3 tyX3 tyX3_ok nmX3 rfl 11 11 (by decide) rfl q1223 rfl rfl (by decide +kernel) dX3_isParish_27 (fun H locs hW hS => ?_)
  refine lv_aload_n hx hb dX3_isParish_30 rfl (lv_at hl 0 rfl) ?_
  obtain ⟨v4, I5, A6, h6, hf⟩ := ob3_e hf
  refine g_vW (ov := some (.int v4)) (D := D) (Sc := mS) (adc := ad) (Ic := (upd I1 11 0)) (Ac := A2) (Rc := nR) (Gc := nG) (As := []) (rest := []) (Ic1 := I5) (Ac1 := A6) (Rc1 := nR) (Gc1 := nG) (b := ad 99) (C := RX3) ⟨hx, hb, hml, hown, hts⟩ (m_takesLaw_met l D ad hI (upd I1 11 0) A2  v4 I5 A6 h6) (g_cwV 0 hts (lw_V q1341 q1343 qs37 q82 q1344) rfl rfl m_takesLaw_ds ⟨Nat.le_trans (Nat.le_of_ble_eq_true rfl) hRf, Nat.le_trans (Nat.le_of_ble_eq_true rfl) hRl⟩) (g_recv hK hW mO rfl) hK hW hS hA hcs rfl hl.1 rfl (Nat.le_of_ble_eq_true rfl) dX3_isParish_31 (fun H locs hW _ hS => ?_)
  obtain ⟨v7, I8, A9, hm9, hf⟩ := ob3_e hf
  refine w_cutH (A0 := frS mS ad) (H0 := s.heap) (X := WH D mS ad I8 A9 nR nG) (nL := 2) (L := [(0, .ref (ad 99))]) (pcj := 49) (st := [.int v7]) (fun H locs ls hW hS hl => ?_) (fun K9 => ?_)
  · refine lv_istore_n (lv' := [(1, .int v7), (0, .ref (ad 99))]) hx hb dX3_isParish_49 rfl hl (by decide) rfl (fun ls hl => ?_)
    obtain ⟨I15, A16, v17, hq17, hf⟩ := ob3_e hf
    refine m_isParish_L50_w hx hb hml hown hts hK hRf hRl hcs hI I15 A16 v17 (fun H locs ls hW hS hl => ?_) NF I8 A9 v7 _ _ ls hq17 hW hS (lv_sub hl [1, 0] rfl)
    obtain ⟨I18, A19, v20, hq20, hf⟩ := ob3_e hf
    refine m_isParish_L76_w hx hb hml hown hts hK hRf hRl hcs hI I18 A19 v20 (fun H locs ls hW hS hl => ?_) NF I15 A16 v17 _ _ ls hq20 hW hS (lv_sub hl [0, 1] rfl)
    refine lv_iload_n hx hb dX3_isParish_99 rfl (lv_at hl 0 rfl) ?_
    obtain ⟨v21, hv21, hf⟩ := ob1_e hf
    obtain ⟨hz, rfl⟩ := zO_e hv21
    obtain ⟨rfl, rfl, rfl⟩ := so3 hf
    exact W.zret hx hb hr (nar_z hz) (fun t ht _ => ⟨rfl, by rw [ht]; exact hW, hS.F ht⟩) hS.2.2 dX3_isParish_100
  · refine lv_if_eq (tgt := 48) hx hb dX3_isParish_34 (by decide) (fun c10 => ?_) (fun c10 => ?_)
    · rw [if_pos c10] at hm9
      refine lv_iconst (v := 0) hx hb dX3_isParish_48 (by decide) ?_
      obtain ⟨rfl, rfl, rfl⟩ := so3 hm9
      exact K9 _ _ ls hW hS (lv_sub hl [0] rfl)
    · rw [if_neg c10] at hm9
      refine lv_aload_n hx hb dX3_isParish_37 rfl (lv_at hl 0 rfl) ?_
      obtain ⟨v11, I12, A13, h13, hm9⟩ := ob3_e hm9
      refine g_vW (ov := some (.int v11)) (D := D) (Sc := mS) (adc := ad) (Ic := I5) (Ac := A6) (Rc := nR) (Gc := nG) (As := []) (rest := []) (Ic1 := I12) (Ac1 := A13) (Rc1 := nR) (Gc1 := nG) (b := ad 99) (C := RX3) ⟨hx, hb, hml, hown, hts⟩ (m_takesPerson_met l D ad hI I5 A6  v11 I12 A13 h13) (g_cwV 0 hts (lw_V q1367 q1369 qs43 q82 q1370) rfl rfl m_takesPerson_ds ⟨Nat.le_trans (Nat.le_of_ble_eq_true rfl) hRf, Nat.le_trans (Nat.le_of_ble_eq_true rfl) hRl⟩) (g_recv hK hW mO rfl) hK hW hS hA hcs rfl hl.1 rfl (Nat.le_of_ble_eq_true rfl) dX3_isParish_38 (fun H locs hW _ hS => ?_)
      refine lv_if_eq (tgt := 48) hx hb dX3_isParish_41 (by decide) (fun c14 => ?_) (fun c14 => ?_)
      · rw [if_pos c14] at hm9
        refine lv_iconst (v := 0) hx hb dX3_isParish_48 (by decide) ?_
        obtain ⟨rfl, rfl, rfl⟩ := so3 hm9
        exact K9 _ _ ls hW hS (lv_sub hl [0] rfl)
      · rw [if_neg c14] at hm9
        refine lv_iconst (v := 1) hx hb dX3_isParish_44 (by decide) ?_
        refine lv_goto (tgt := 49) hx hb dX3_isParish_45 (by decide) ?_
        obtain ⟨rfl, rfl, rfl⟩ := so3 hm9
        exact K9 _ _ ls hW hS (lv_sub hl [0] rfl)
theorem m_isParish_ds : yX3_isParish.cls = RX3 ∧ yX3_isParish.cls ≠ "java/lang/invoke/MethodHandle" ∧ yX3_isParish.cls ≠ "java/lang/invoke/VarHandle" ∧ (parseMethodDescriptor yX3_isParish.desc).map (fun d => d.parameters.length) = some 0 := by decide +kernel
/-! parish -/
def m_parish_L32 : Nat → (Nat → Int32) → (Nat → Nat → Int32) → Int32 → Option ((Nat → Int32) × (Nat → Nat → Int32) × Int32)
  | 0, _, _, _ => none
  | n + 1, I, A, x2 =>
    if 73 ≤ x2 then (some (I, A, x2)) else (ob1 (ldO (A 0) 2044 (219 + x2)) fun (v2 : Int32) =>
      ob1 (stO (A 0) 2044 x2 v2) fun (f3 : Nat → Int32) =>
      m_parish_L32 n I (va_up A 0 f3) (x2 + 1))
set_option maxRecDepth 100000 in
set_option maxHeartbeats 4000000 in
theorem m_parish_L32_w {p : Program} {l : Launch} {e : Env} {R0 : Room} {s : State} {m : MethodId} {args : Array Value} {below : List Frame} {meth : Method} {c : Code} {cells slots : Nat} {Q : State → Prop} {D : dd_} {ad : Nat → Nat} (hx : p.tables.exec = Jvm.exec) (hb : c.code = cX3_parish) (hml : c.maxLocals = 3) (hown : s.vm.findClass RX3 = some m.cls) (hts : ∀ w ∈ lw_all, w.before args s = true) (hK : Kx D s) (hRf : 7 ≤ R0.frames) (hRl : 152 ≤ R0.locals) (hcs : cells ≤ R0.cells ∧ slots ≤ R0.slots) (hI : Inj mS ad) (I9 : (Nat → Int32)) (A9 : (Nat → Nat → Int32)) (y2 : Int32) (KX : ∀ (H : Heap) (locs : List Loc) (ls : Array Slot), WH D mS ad I9 A9 nR nG H → va_S (frS mS ad) s.heap H locs → lv_has ls 3 [(0, .ref (ad 99))] → W p l e R0 s m args below meth c H locs cells slots Q (F0 m 60 ls [])) : ∀ (n : Nat) (I : (Nat → Int32)) (A : (Nat → Nat → Int32)) (x2 : Int32) (H : Heap) (locs : List Loc) (ls : Array Slot), m_parish_L32 n I A x2 = some (I9, A9, y2) → WH D mS ad I A nR nG H → va_S (frS mS ad) s.heap H locs → lv_has ls 3 [(0, .ref (ad 99)), (2, .int x2)] → W p l e R0 s m args below meth c H locs cells slots Q (F0 m 32 ls []) := by
  intro n
  have hA : ∀ i ∈ idxS mS, frS mS ad (ad i) := fun i hi => ⟨i, hi, rfl⟩
  induction n with
  | zero =>
    intro I A x2 H locs ls hf
    exact nomatch (show (none : Option ((Nat → Int32) × (Nat → Nat → Int32) × Int32)) = some (I9, A9, y2) from hf)
  | succ n ih =>
    intro I A x2 H locs ls hf hW hS hl
    have hf : (if 73 ≤ x2 then (some (I, A, x2)) else (ob1 (ldO (A 0) 2044 (219 + x2)) fun (v2 : Int32) =>
          ob1 (stO (A 0) 2044 x2 v2) fun (f3 : Nat → Int32) =>
          m_parish_L32 n I (va_up A 0 f3) (x2 + 1))) = some (I9, A9, y2) := hf
    refine lv_iload_n hx hb dX3_parish_32 rfl (lv_at hl 1 rfl) ?_
    refine lv_bipush (v := 73) hx hb dX3_parish_33 (by decide) ?_
    refine lv_icmp_ge (tgt := 60) hx hb dX3_parish_35 (by decide) (fun c1 => ?_) (fun c1 => ?_)
    · rw [if_pos c1] at hf
      obtain ⟨rfl, rfl, rfl⟩ := so3 hf
      exact KX _ _ ls hW hS (lv_sub hl [0] rfl)
    · rw [if_neg c1] at hf
      refine lv_aload_n hx hb dX3_parish_38 rfl (lv_at hl 0 rfl) ?_
      refine g_get (v := .ref (ad 0)) hx hb hts hown hK hW mO in_X3 rfl 0 (by decide) q1212 rfl rfl dX3_parish_39 ?_
      refine lv_iload_n hx hb dX3_parish_42 rfl (lv_at hl 1 rfl) ?_
      refine lv_aload_n hx hb dX3_parish_43 rfl (lv_at hl 0 rfl) ?_
      refine g_get (v := .ref (ad 0)) hx hb hts hown hK hW mO in_X3 rfl 0 (by decide) q1212 rfl rfl dX3_parish_44 ?_
      refine lv_sipush (v := 219) hx hb dX3_parish_47 (by decide) ?_
      refine lv_iload_n hx hb dX3_parish_50 rfl (lv_at hl 1 rfl) ?_
      refine lv_iadd hx hb dX3_parish_51 ?_
      obtain ⟨v2, hv2, hf⟩ := ob1_e hf
      refine g_iald hx hb hK hW mA0 hv2 dX3_parish_52 ?_
      obtain ⟨f3, hf3, hf⟩ := ob1_e hf
      refine g_iast hx hb hK mwf hI hA hW hS mA0 hf3 dX3_parish_53 (fun H locs hW hS => ?_)
      refine lv_iinc (v := x2 + 1) (lv' := [(2, .int (x2 + 1)), (0, .ref (ad 99))]) hx hb dX3_parish_54 hl (k := 1) rfl (by rfl) (by decide) rfl (fun ls hl => ?_)
      refine lv_goto (tgt := 32) hx hb dX3_parish_57 (by decide) ?_
      exact ih I (va_up A 0 f3) (x2 + 1) _ _ ls hf hW hS (lv_sub hl [1, 0] rfl)
def m_parish (I : Nat → Int32) (A : Nat → Nat → Int32) : Option (Int32 × (Nat → Int32) × (Nat → Nat → Int32)) :=
  ob3 (m_isParish I A ) fun (v1 : Int32) (I2 : Nat → Int32) (A3 : Nat → Nat → Int32) =>
  if v1 = 0 then (some ((-1000100) - ((upd (upd I2 9 0) 10 ((upd I2 9 0) 13)) 12), upd (upd I2 9 0) 10 ((upd I2 9 0) 13), A3)) else (ob3 (m_parish_L32 NF (upd I2 9 0) A3 0) fun (I5 : Nat → Int32) (A6 : Nat → Nat → Int32) (v7 : Int32) =>
    ob1 (stO (A6 0) 2044 9 1) fun (f8 : Nat → Int32) =>
    ob1 (ldO ((va_up A6 0 f8) 0) 2044 6) fun (v9 : Int32) =>
    some (v9, upd I5 1 0, va_up A6 0 f8))
set_option maxRecDepth 100000 in
set_option maxHeartbeats 4000000 in
theorem m_parish_met (l : Launch) (D : dd_) (ad : Nat → Nat) (hI : Inj mS ad) (I : Nat → Int32) (A : Nat → Nat → Int32) (r : Int32) (I1 : (Nat → Int32)) (A1 : (Nat → Nat → Int32)) (hf : m_parish I A  = some (r, I1, A1)) : Met l yX3_parish (ws_ yX3_parish cX3_parish 3 (some .int)) ({ frames := 7, cells := 0, slots := 0, locals := 152 }) (PcW D mS ad I A nR nG [.ref (ad 99)]) (QcW D mS ad I1 A1 nR nG (some (.int r))) 0 0 (frS mS ad) := by
  refine Met.ofW (cc := cX3_parish) (maxL := 3) (ret := (some .int)) (by decide) rfl ?_
  intro p e s m args below meth c s₁ B hml hv
  obtain ⟨rfl, hK, hW⟩ := hv
  have hx := B.exec
  have hb := B.bytes
  have hr := B.returns
  have hts := atoms_spec (ws := (ws_ yX3_parish cX3_parish 3 (some .int))) B.pre
  have hts : ∀ w ∈ lw_all, w.before _ s = true := fun w h => hts w (List.mem_cons_of_mem _ h)
  have hown : s.vm.findClass RX3 = some m.cls := findClass_of_methodNamed B.named
  have hlocks := B.notSynchronized
  have hRf : 7 ≤ (headSpec (ws_ yX3_parish cX3_parish 3 (some .int)) ({ frames := 7, cells := 0, slots := 0, locals := 152 })).room.frames := Nat.le_refl _
  have hRl : 152 ≤ (headSpec (ws_ yX3_parish cX3_parish 3 (some .int)) ({ frames := 7, cells := 0, slots := 0, locals := 152 })).room.locals := Nat.le_refl _
  have hcs : 0 ≤ (headSpec (ws_ yX3_parish cX3_parish 3 (some .int)) ({ frames := 7, cells := 0, slots := 0, locals := 152 })).room.cells ∧ 0 ≤ (headSpec (ws_ yX3_parish cX3_parish 3 (some .int)) ({ frames := 7, cells := 0, slots := 0, locals := 152 })).room.slots := ⟨Nat.zero_le _, Nat.zero_le _⟩
  have hA : ∀ i ∈ idxS mS, frS mS ad (ad i) := fun i hi => ⟨i, hi, rfl⟩
  have hS : va_S (frS mS ad) s.heap s.heap [] := va_S.rf
  have hl := lv_entry ([.ref (ad 99)]) (n := 3) (Nat.le_of_ble_eq_true rfl)
  rw [lg_entry_eq]
  generalize (lg_sl ([.ref (ad 99)]) ++ List.replicate (3 - (lg_sl ([.ref (ad 99)])).length) Slot.unset).toArray = ls at hl ⊢
  have hl : lv_has ls 3 [(0, .ref (ad 99))] := hl
  have hf : (ob3 (m_isParish I A ) fun (v1 : Int32) (I2 : Nat → Int32) (A3 : Nat → Nat → Int32) =>
    if v1 = 0 then (some ((-1000100) - ((upd (upd I2 9 0) 10 ((upd I2 9 0) 13)) 12), upd (upd I2 9 0) 10 ((upd I2 9 0) 13), A3)) else (ob3 (m_parish_L32 NF (upd I2 9 0) A3 0) fun (I5 : Nat → Int32) (A6 : Nat → Nat → Int32) (v7 : Int32) =>
      ob1 (stO (A6 0) 2044 9 1) fun (f8 : Nat → Int32) =>
      ob1 (ldO ((va_up A6 0 f8) 0) 2044 6) fun (v9 : Int32) =>
      some (v9, upd I5 1 0, va_up A6 0 f8))) = some (r, I1, A1) := hf
  refine lv_aload_n hx hb dX3_parish_0 rfl (lv_at hl 0 rfl) ?_
  obtain ⟨v1, I2, A3, h3, hf⟩ := ob3_e hf
  refine g_vW (ov := some (.int v1)) (D := D) (Sc := mS) (adc := ad) (Ic := I) (Ac := A) (Rc := nR) (Gc := nG) (As := []) (rest := []) (Ic1 := I2) (Ac1 := A3) (Rc1 := nR) (Gc1 := nG) (b := ad 99) (C := RX3) ⟨hx, hb, hml, hown, hts⟩ (m_isParish_met l D ad hI I A  v1 I2 A3 h3) (g_cwV 0 hts (lw_V q1337 q1339 qs36 q82 q1340) rfl rfl m_isParish_ds ⟨Nat.le_trans (Nat.le_of_ble_eq_true rfl) hRf, Nat.le_trans (Nat.le_of_ble_eq_true rfl) hRl⟩) (g_recv hK hW mO rfl) hK hW hS hA hcs rfl hl.1 rfl (Nat.le_of_ble_eq_true rfl) dX3_parish_1 (fun H locs hW _ hS => ?_)
  refine lv_istore_n (lv' := [(1, .int v1), (0, .ref (ad 99))]) hx hb dX3_parish_4 rfl hl (by decide) rfl (fun ls hl => ?_)
  refine lv_aload_n hx hb dX3_parish_5 rfl (lv_at hl 1 rfl) ?_
  refine lv_iconst (v := 0) hx hb dX3_parish_6 (by decide) ?_
  refine g_putI hx hb hts hown hK mwf hI hA hW hS mO in_X3 tyX3 tyX3_ok nmX3 rfl 9 9 (by decide) rfl q1221 rfl rfl (by decide +kernel) dX3_parish_7 (fun H locs hW hS => ?_)
  refine lv_iload_n hx hb dX3_parish_10 rfl (lv_at hl 0 rfl) ?_
  refine lv_if_ne (tgt := 30) hx hb dX3_parish_11 (by decide) (fun c4 => ?_) (fun c4 => ?_)
  · rw [if_neg c4] at hf
    refine lv_iconst (v := 0) hx hb dX3_parish_30 (by decide) ?_
    refine lv_istore_n (lv' := [(2, .int 0), (1, .int v1), (0, .ref (ad 99))]) hx hb dX3_parish_31 rfl hl (by decide) rfl (fun ls hl => ?_)
    obtain ⟨I5, A6, v7, hq7, hf⟩ := ob3_e hf
    refine m_parish_L32_w hx hb hml hown hts hK hRf hRl hcs hI I5 A6 v7 (fun H locs ls hW hS hl => ?_) NF (upd I2 9 0) A3 0 _ _ ls hq7 hW hS (lv_sub hl [2, 0] rfl)
    refine lv_aload_n hx hb dX3_parish_60 rfl (lv_at hl 0 rfl) ?_
    refine g_get (v := .ref (ad 0)) hx hb hts hown hK hW mO in_X3 rfl 0 (by decide) q1212 rfl rfl dX3_parish_61 ?_
    refine lv_bipush (v := 9) hx hb dX3_parish_64 (by decide) ?_
    refine lv_iconst (v := 1) hx hb dX3_parish_66 (by decide) ?_
    obtain ⟨f8, hf8, hf⟩ := ob1_e hf
    refine g_iast hx hb hK mwf hI hA hW hS mA0 hf8 dX3_parish_67 (fun H locs hW hS => ?_)
    refine lv_aload_n hx hb dX3_parish_68 rfl (lv_at hl 0 rfl) ?_
    refine lv_iconst (v := 0) hx hb dX3_parish_69 (by decide) ?_
    refine g_putI hx hb hts hown hK mwf hI hA hW hS mO in_X3 tyX3 tyX3_ok nmX3 rfl 1 1 (by decide) rfl q1213 rfl rfl (by decide +kernel) dX3_parish_70 (fun H locs hW hS => ?_)
    refine lv_aload_n hx hb dX3_parish_73 rfl (lv_at hl 0 rfl) ?_
    refine g_get (v := .ref (ad 0)) hx hb hts hown hK hW mO in_X3 rfl 0 (by decide) q1212 rfl rfl dX3_parish_74 ?_
    refine lv_bipush (v := 6) hx hb dX3_parish_77 (by decide) ?_
    obtain ⟨v9, hv9, hf⟩ := ob1_e hf
    refine g_iald hx hb hK hW mA0 hv9 dX3_parish_79 ?_
    obtain ⟨rfl, rfl, rfl⟩ := so3 hf
    exact W.iret hx hb hr (fun t ht _ => ⟨rfl, by rw [ht]; exact hW, hS.F ht⟩) hS.2.2 dX3_parish_80
  · rw [if_pos c4] at hf
    refine lv_aload_n hx hb dX3_parish_14 rfl (lv_at hl 1 rfl) ?_
    refine lv_aload_n hx hb dX3_parish_15 rfl (lv_at hl 1 rfl) ?_
    refine g_get (v := .int ((upd I2 9 0) 13)) hx hb hts hown hK hW mO in_X3 rfl 13 (by decide) q1225 rfl rfl dX3_parish_16 ?_
    refine g_putI hx hb hts hown hK mwf hI hA hW hS mO in_X3 tyX3 tyX3_ok nmX3 rfl 10 10 (by decide) rfl q1222 rfl rfl (by decide +kernel) dX3_parish_19 (fun H locs hW hS => ?_)
    refine lv_ldc (v := (-1000100)) hx hb hown (hts _ q1382) dX3_parish_22 ?_
    refine lv_aload_n hx hb dX3_parish_24 rfl (lv_at hl 1 rfl) ?_
    refine g_get (v := .int ((upd (upd I2 9 0) 10 ((upd I2 9 0) 13)) 12)) hx hb hts hown hK hW mO in_X3 rfl 12 (by decide) q1224 rfl rfl dX3_parish_25 ?_
    refine lv_isub hx hb dX3_parish_28 ?_
    obtain ⟨rfl, rfl, rfl⟩ := so3 hf
    exact W.iret hx hb hr (fun t ht _ => ⟨rfl, by rw [ht]; exact hW, hS.F ht⟩) hS.2.2 dX3_parish_29
theorem m_parish_ds : yX3_parish.cls = RX3 ∧ yX3_parish.cls ≠ "java/lang/invoke/MethodHandle" ∧ yX3_parish.cls ≠ "java/lang/invoke/VarHandle" ∧ (parseMethodDescriptor yX3_parish.desc).map (fun d => d.parameters.length) = some 0 := by decide +kernel
/-! fault -/
def m_fault (I : Nat → Int32) (A : Nat → Nat → Int32) : Option (Int32) :=
  some (I 10)
set_option maxRecDepth 100000 in
set_option maxHeartbeats 4000000 in
theorem m_fault_met (l : Launch) (D : dd_) (ad : Nat → Nat) (I : Nat → Int32) (A : Nat → Nat → Int32) (r : Int32) (hf : m_fault I A  = some r) : Met l yX3_fault (ws_ yX3_fault cX3_fault 1 (some .int)) ({ frames := 1, cells := 0, slots := 0, locals := 16 }) (PcW D mS ad I A nR nG [.ref (ad 99)]) (QcR (some (.int r))) 0 0 (fun _ => False) := by
  refine Met.ofW (cc := cX3_fault) (maxL := 1) (ret := (some .int)) (by decide) rfl ?_
  intro p e s m args below meth c s₁ B hml hv
  obtain ⟨rfl, hK, hW⟩ := hv
  have hx := B.exec
  have hb := B.bytes
  have hr := B.returns
  have hts := atoms_spec (ws := (ws_ yX3_fault cX3_fault 1 (some .int))) B.pre
  have hts : ∀ w ∈ lw_all, w.before _ s = true := fun w h => hts w (List.mem_cons_of_mem _ h)
  have hown : s.vm.findClass RX3 = some m.cls := findClass_of_methodNamed B.named
  have hlocks := B.notSynchronized
  have hRf : 1 ≤ (headSpec (ws_ yX3_fault cX3_fault 1 (some .int)) ({ frames := 1, cells := 0, slots := 0, locals := 16 })).room.frames := Nat.le_refl _
  have hRl : 16 ≤ (headSpec (ws_ yX3_fault cX3_fault 1 (some .int)) ({ frames := 1, cells := 0, slots := 0, locals := 16 })).room.locals := Nat.le_refl _
  have hcs : 0 ≤ (headSpec (ws_ yX3_fault cX3_fault 1 (some .int)) ({ frames := 1, cells := 0, slots := 0, locals := 16 })).room.cells ∧ 0 ≤ (headSpec (ws_ yX3_fault cX3_fault 1 (some .int)) ({ frames := 1, cells := 0, slots := 0, locals := 16 })).room.slots := ⟨Nat.zero_le _, Nat.zero_le _⟩
  have hl := lv_entry ([.ref (ad 99)]) (n := 1) (Nat.le_of_ble_eq_true rfl)
  rw [lg_entry_eq]
  generalize (lg_sl ([.ref (ad 99)]) ++ List.replicate (1 - (lg_sl ([.ref (ad 99)])).length) Slot.unset).toArray = ls at hl ⊢
  have hl : lv_has ls 1 [(0, .ref (ad 99))] := hl
  have hf : (some (I 10)) = some r := hf
  refine lv_aload_n hx hb dX3_fault_0 rfl (lv_at hl 0 rfl) ?_
  refine g_get (v := .int (I 10)) hx hb hts hown hK hW mO in_X3 rfl 10 (by decide) q1222 rfl rfl dX3_fault_1 ?_
  obtain rfl := so1 hf
  exact W.iret hx hb hr (fun t ht _ => ⟨rfl, ht⟩) (fun q hq => by cases hq) dX3_fault_4
theorem m_fault_ds : yX3_fault.cls = RX3 ∧ yX3_fault.cls ≠ "java/lang/invoke/MethodHandle" ∧ yX3_fault.cls ≠ "java/lang/invoke/VarHandle" ∧ (parseMethodDescriptor yX3_fault.desc).map (fun d => d.parameters.length) = some 0 := by decide +kernel
/-! undo -/
def m_undo_L22 : Nat → (Nat → Int32) → (Nat → Nat → Int32) → Int32 → Option ((Nat → Int32) × (Nat → Nat → Int32) × Int32)
  | 0, _, _, _ => none
  | n + 1, I, A, x1 =>
    if 73 ≤ x1 then (some (I, A, x1)) else (ob1 (ldO (A 0) 2044 ((292 + (73 * (I 1))) + x1)) fun (v2 : Int32) =>
      ob1 (stO (A 0) 2044 x1 v2) fun (f3 : Nat → Int32) =>
      m_undo_L22 n I (va_up A 0 f3) (x1 + 1))
set_option maxRecDepth 100000 in
set_option maxHeartbeats 4000000 in
theorem m_undo_L22_w {p : Program} {l : Launch} {e : Env} {R0 : Room} {s : State} {m : MethodId} {args : Array Value} {below : List Frame} {meth : Method} {c : Code} {cells slots : Nat} {Q : State → Prop} {D : dd_} {ad : Nat → Nat} (hx : p.tables.exec = Jvm.exec) (hb : c.code = cX3_undo) (hml : c.maxLocals = 2) (hown : s.vm.findClass RX3 = some m.cls) (hts : ∀ w ∈ lw_all, w.before args s = true) (hK : Kx D s) (hRf : 1 ≤ R0.frames) (hRl : 16 ≤ R0.locals) (hcs : cells ≤ R0.cells ∧ slots ≤ R0.slots) (hI : Inj mS ad) (I9 : (Nat → Int32)) (A9 : (Nat → Nat → Int32)) (y1 : Int32) (KX : ∀ (H : Heap) (locs : List Loc) (ls : Array Slot), WH D mS ad I9 A9 nR nG H → va_S (frS mS ad) s.heap H locs → lv_has ls 2 [(0, .ref (ad 99))] → W p l e R0 s m args below meth c H locs cells slots Q (F0 m 58 ls [])) : ∀ (n : Nat) (I : (Nat → Int32)) (A : (Nat → Nat → Int32)) (x1 : Int32) (H : Heap) (locs : List Loc) (ls : Array Slot), m_undo_L22 n I A x1 = some (I9, A9, y1) → WH D mS ad I A nR nG H → va_S (frS mS ad) s.heap H locs → lv_has ls 2 [(0, .ref (ad 99)), (1, .int x1)] → W p l e R0 s m args below meth c H locs cells slots Q (F0 m 22 ls []) := by
  intro n
  have hA : ∀ i ∈ idxS mS, frS mS ad (ad i) := fun i hi => ⟨i, hi, rfl⟩
  induction n with
  | zero =>
    intro I A x1 H locs ls hf
    exact nomatch (show (none : Option ((Nat → Int32) × (Nat → Nat → Int32) × Int32)) = some (I9, A9, y1) from hf)
  | succ n ih =>
    intro I A x1 H locs ls hf hW hS hl
    have hf : (if 73 ≤ x1 then (some (I, A, x1)) else (ob1 (ldO (A 0) 2044 ((292 + (73 * (I 1))) + x1)) fun (v2 : Int32) =>
          ob1 (stO (A 0) 2044 x1 v2) fun (f3 : Nat → Int32) =>
          m_undo_L22 n I (va_up A 0 f3) (x1 + 1))) = some (I9, A9, y1) := hf
    refine lv_iload_n hx hb dX3_undo_22 rfl (lv_at hl 1 rfl) ?_
    refine lv_bipush (v := 73) hx hb dX3_undo_23 (by decide) ?_
    refine lv_icmp_ge (tgt := 58) hx hb dX3_undo_25 (by decide) (fun c1 => ?_) (fun c1 => ?_)
    · rw [if_pos c1] at hf
      obtain ⟨rfl, rfl, rfl⟩ := so3 hf
      exact KX _ _ ls hW hS (lv_sub hl [0] rfl)
    · rw [if_neg c1] at hf
      refine lv_aload_n hx hb dX3_undo_28 rfl (lv_at hl 0 rfl) ?_
      refine g_get (v := .ref (ad 0)) hx hb hts hown hK hW mO in_X3 rfl 0 (by decide) q1212 rfl rfl dX3_undo_29 ?_
      refine lv_iload_n hx hb dX3_undo_32 rfl (lv_at hl 1 rfl) ?_
      refine lv_aload_n hx hb dX3_undo_33 rfl (lv_at hl 0 rfl) ?_
      refine g_get (v := .ref (ad 0)) hx hb hts hown hK hW mO in_X3 rfl 0 (by decide) q1212 rfl rfl dX3_undo_34 ?_
      refine lv_sipush (v := 292) hx hb dX3_undo_37 (by decide) ?_
      refine lv_bipush (v := 73) hx hb dX3_undo_40 (by decide) ?_
      refine lv_aload_n hx hb dX3_undo_42 rfl (lv_at hl 0 rfl) ?_
      refine g_get (v := .int (I 1)) hx hb hts hown hK hW mO in_X3 rfl 1 (by decide) q1213 rfl rfl dX3_undo_43 ?_
      refine lv_imul hx hb dX3_undo_46 ?_
      refine lv_iadd hx hb dX3_undo_47 ?_
      refine lv_iload_n hx hb dX3_undo_48 rfl (lv_at hl 1 rfl) ?_
      refine lv_iadd hx hb dX3_undo_49 ?_
      obtain ⟨v2, hv2, hf⟩ := ob1_e hf
      refine g_iald hx hb hK hW mA0 hv2 dX3_undo_50 ?_
      obtain ⟨f3, hf3, hf⟩ := ob1_e hf
      refine g_iast hx hb hK mwf hI hA hW hS mA0 hf3 dX3_undo_51 (fun H locs hW hS => ?_)
      refine lv_iinc (v := x1 + 1) (lv' := [(1, .int (x1 + 1)), (0, .ref (ad 99))]) hx hb dX3_undo_52 hl (k := 1) rfl (by rfl) (by decide) rfl (fun ls hl => ?_)
      refine lv_goto (tgt := 22) hx hb dX3_undo_55 (by decide) ?_
      exact ih I (va_up A 0 f3) (x1 + 1) _ _ ls hf hW hS (lv_sub hl [1, 0] rfl)
def m_undo (I : Nat → Int32) (A : Nat → Nat → Int32) : Option (Int32 × (Nat → Int32) × (Nat → Nat → Int32)) :=
  if (I 1) = 0 then (some ((-1000002), I, A)) else (ob3 (m_undo_L22 NF (upd I 1 ((I 1) - 1)) A 0) fun (I2 : Nat → Int32) (A3 : Nat → Nat → Int32) (v4 : Int32) =>
    some (I2 1, I2, A3))
set_option maxRecDepth 100000 in
set_option maxHeartbeats 4000000 in
theorem m_undo_met (l : Launch) (D : dd_) (ad : Nat → Nat) (hI : Inj mS ad) (I : Nat → Int32) (A : Nat → Nat → Int32) (r : Int32) (I1 : (Nat → Int32)) (A1 : (Nat → Nat → Int32)) (hf : m_undo I A  = some (r, I1, A1)) : Met l yX3_undo (ws_ yX3_undo cX3_undo 2 (some .int)) ({ frames := 1, cells := 0, slots := 0, locals := 16 }) (PcW D mS ad I A nR nG [.ref (ad 99)]) (QcW D mS ad I1 A1 nR nG (some (.int r))) 0 0 (frS mS ad) := by
  refine Met.ofW (cc := cX3_undo) (maxL := 2) (ret := (some .int)) (by decide) rfl ?_
  intro p e s m args below meth c s₁ B hml hv
  obtain ⟨rfl, hK, hW⟩ := hv
  have hx := B.exec
  have hb := B.bytes
  have hr := B.returns
  have hts := atoms_spec (ws := (ws_ yX3_undo cX3_undo 2 (some .int))) B.pre
  have hts : ∀ w ∈ lw_all, w.before _ s = true := fun w h => hts w (List.mem_cons_of_mem _ h)
  have hown : s.vm.findClass RX3 = some m.cls := findClass_of_methodNamed B.named
  have hlocks := B.notSynchronized
  have hRf : 1 ≤ (headSpec (ws_ yX3_undo cX3_undo 2 (some .int)) ({ frames := 1, cells := 0, slots := 0, locals := 16 })).room.frames := Nat.le_refl _
  have hRl : 16 ≤ (headSpec (ws_ yX3_undo cX3_undo 2 (some .int)) ({ frames := 1, cells := 0, slots := 0, locals := 16 })).room.locals := Nat.le_refl _
  have hcs : 0 ≤ (headSpec (ws_ yX3_undo cX3_undo 2 (some .int)) ({ frames := 1, cells := 0, slots := 0, locals := 16 })).room.cells ∧ 0 ≤ (headSpec (ws_ yX3_undo cX3_undo 2 (some .int)) ({ frames := 1, cells := 0, slots := 0, locals := 16 })).room.slots := ⟨Nat.zero_le _, Nat.zero_le _⟩
  have hA : ∀ i ∈ idxS mS, frS mS ad (ad i) := fun i hi => ⟨i, hi, rfl⟩
  have hS : va_S (frS mS ad) s.heap s.heap [] := va_S.rf
  have hl := lv_entry ([.ref (ad 99)]) (n := 2) (Nat.le_of_ble_eq_true rfl)
  rw [lg_entry_eq]
  generalize (lg_sl ([.ref (ad 99)]) ++ List.replicate (2 - (lg_sl ([.ref (ad 99)])).length) Slot.unset).toArray = ls at hl ⊢
  have hl : lv_has ls 2 [(0, .ref (ad 99))] := hl
  have hf : (if (I 1) = 0 then (some ((-1000002), I, A)) else (ob3 (m_undo_L22 NF (upd I 1 ((I 1) - 1)) A 0) fun (I2 : Nat → Int32) (A3 : Nat → Nat → Int32) (v4 : Int32) =>
      some (I2 1, I2, A3))) = some (r, I1, A1) := hf
  refine lv_aload_n hx hb dX3_undo_0 rfl (lv_at hl 0 rfl) ?_
  refine g_get (v := .int (I 1)) hx hb hts hown hK hW mO in_X3 rfl 1 (by decide) q1213 rfl rfl dX3_undo_1 ?_
  refine lv_if_ne (tgt := 10) hx hb dX3_undo_4 (by decide) (fun c1 => ?_) (fun c1 => ?_)
  · rw [if_neg c1] at hf
    refine lv_aload_n hx hb dX3_undo_10 rfl (lv_at hl 0 rfl) ?_
    refine lv_dup hx hb dX3_undo_11 rfl ?_
    refine g_get (v := .int (I 1)) hx hb hts hown hK hW mO in_X3 rfl 1 (by decide) q1213 rfl rfl dX3_undo_12 ?_
    refine lv_iconst (v := 1) hx hb dX3_undo_15 (by decide) ?_
    refine lv_isub hx hb dX3_undo_16 ?_
    refine g_putI hx hb hts hown hK mwf hI hA hW hS mO in_X3 tyX3 tyX3_ok nmX3 rfl 1 1 (by decide) rfl q1213 rfl rfl (by decide +kernel) dX3_undo_17 (fun H locs hW hS => ?_)
    refine lv_iconst (v := 0) hx hb dX3_undo_20 (by decide) ?_
    refine lv_istore_n (lv' := [(1, .int 0), (0, .ref (ad 99))]) hx hb dX3_undo_21 rfl hl (by decide) rfl (fun ls hl => ?_)
    obtain ⟨I2, A3, v4, hq4, hf⟩ := ob3_e hf
    refine m_undo_L22_w hx hb hml hown hts hK hRf hRl hcs hI I2 A3 v4 (fun H locs ls hW hS hl => ?_) NF (upd I 1 ((I 1) - 1)) A 0 _ _ ls hq4 hW hS (lv_sub hl [1, 0] rfl)
    refine lv_aload_n hx hb dX3_undo_58 rfl (lv_at hl 0 rfl) ?_
    refine g_get (v := .int (I2 1)) hx hb hts hown hK hW mO in_X3 rfl 1 (by decide) q1213 rfl rfl dX3_undo_59 ?_
    obtain ⟨rfl, rfl, rfl⟩ := so3 hf
    exact W.iret hx hb hr (fun t ht _ => ⟨rfl, by rw [ht]; exact hW, hS.F ht⟩) hS.2.2 dX3_undo_62
  · rw [if_pos c1] at hf
    refine lv_ldc (v := (-1000002)) hx hb hown (hts _ q1391) dX3_undo_7 ?_
    obtain ⟨rfl, rfl, rfl⟩ := so3 hf
    exact W.iret hx hb hr (fun t ht _ => ⟨rfl, by rw [ht]; exact hW, hS.F ht⟩) hS.2.2 dX3_undo_9
theorem m_undo_ds : yX3_undo.cls = RX3 ∧ yX3_undo.cls ≠ "java/lang/invoke/MethodHandle" ∧ yX3_undo.cls ≠ "java/lang/invoke/VarHandle" ∧ (parseMethodDescriptor yX3_undo.desc).map (fun d => d.parameters.length) = some 0 := by decide +kernel
/-! isPerson -/
def m_isPerson (I : Nat → Int32) (A : Nat → Nat → Int32) (a0 : Int32) : Option (Int32) :=
  ob1 (ldO (A 0) 2044 6) fun (v1 : Int32) =>
  ob1 (m_in a0.toInt64 0 ((v1 - 1).toInt64)) fun (v2 : Int32) =>
  zO v2
set_option maxRecDepth 100000 in
set_option maxHeartbeats 4000000 in
theorem m_isPerson_met (l : Launch) (D : dd_) (ad : Nat → Nat) (I : Nat → Int32) (A : Nat → Nat → Int32) (a0 : Int32) (r : Int32) (hf : m_isPerson I A a0 = some r) : Met l yX3_isPerson (ws_ yX3_isPerson cX3_isPerson 2 (some .boolean)) ({ frames := 2, cells := 0, slots := 0, locals := 41 }) (PcW D mS ad I A nR nG [.ref (ad 99), .int a0]) (QcR (some (.int r))) 0 0 (fun _ => False) := by
  refine Met.ofW (cc := cX3_isPerson) (maxL := 2) (ret := (some .boolean)) (by decide) rfl ?_
  intro p e s m args below meth c s₁ B hml hv
  obtain ⟨rfl, hK, hW⟩ := hv
  have hx := B.exec
  have hb := B.bytes
  have hr := B.returns
  have hts := atoms_spec (ws := (ws_ yX3_isPerson cX3_isPerson 2 (some .boolean))) B.pre
  have hts : ∀ w ∈ lw_all, w.before _ s = true := fun w h => hts w (List.mem_cons_of_mem _ h)
  have hown : s.vm.findClass RX3 = some m.cls := findClass_of_methodNamed B.named
  have hlocks := B.notSynchronized
  have hRf : 2 ≤ (headSpec (ws_ yX3_isPerson cX3_isPerson 2 (some .boolean)) ({ frames := 2, cells := 0, slots := 0, locals := 41 })).room.frames := Nat.le_refl _
  have hRl : 41 ≤ (headSpec (ws_ yX3_isPerson cX3_isPerson 2 (some .boolean)) ({ frames := 2, cells := 0, slots := 0, locals := 41 })).room.locals := Nat.le_refl _
  have hcs : 0 ≤ (headSpec (ws_ yX3_isPerson cX3_isPerson 2 (some .boolean)) ({ frames := 2, cells := 0, slots := 0, locals := 41 })).room.cells ∧ 0 ≤ (headSpec (ws_ yX3_isPerson cX3_isPerson 2 (some .boolean)) ({ frames := 2, cells := 0, slots := 0, locals := 41 })).room.slots := ⟨Nat.zero_le _, Nat.zero_le _⟩
  have hl := lv_entry ([.ref (ad 99), .int a0]) (n := 2) (Nat.le_of_ble_eq_true rfl)
  rw [lg_entry_eq]
  generalize (lg_sl ([.ref (ad 99), .int a0]) ++ List.replicate (2 - (lg_sl ([.ref (ad 99), .int a0])).length) Slot.unset).toArray = ls at hl ⊢
  have hl : lv_has ls 2 [(0, .ref (ad 99)), (1, .int a0)] := hl
  have hf : (ob1 (ldO (A 0) 2044 6) fun (v1 : Int32) =>
    ob1 (m_in a0.toInt64 0 ((v1 - 1).toInt64)) fun (v2 : Int32) =>
    zO v2) = some r := hf
  refine lv_iload_n hx hb dX3_isPerson_0 rfl (lv_at hl 1 rfl) ?_
  refine lv_i2l (v := a0.toInt64) hx hb dX3_isPerson_1 rfl ?_
  refine lv_lconst (v := 0) hx hb dX3_isPerson_2 (by decide) ?_
  refine lv_aload_n hx hb dX3_isPerson_3 rfl (lv_at hl 0 rfl) ?_
  refine g_get (v := .ref (ad 0)) hx hb hts hown hK hW mO in_X3 rfl 0 (by decide) q1212 rfl rfl dX3_isPerson_4 ?_
  refine lv_bipush (v := 6) hx hb dX3_isPerson_7 (by decide) ?_
  obtain ⟨v1, hv1, hf⟩ := ob1_e hf
  refine g_iald hx hb hK hW mA0 hv1 dX3_isPerson_9 ?_
  refine lv_iconst (v := 1) hx hb dX3_isPerson_10 (by decide) ?_
  refine lv_isub hx hb dX3_isPerson_11 ?_
  refine lv_i2l (v := (v1 - 1).toInt64) hx hb dX3_isPerson_12 rfl ?_
  obtain ⟨v2, h2, hf⟩ := ob1_e hf
  refine g_sR (ov := some (.int v2)) (D := D) (Sc := nS) (adc := ad) (Ic := (fun _ => 0)) (Ac := (fun _ _ => 0)) (Rc := nR) (Gc := nG) (As := [.long a0.toInt64, .long 0, .long ((v1 - 1).toInt64)]) (rest := []) ⟨hx, hb, hml, hown, hts⟩ (m_in_met l D ad a0.toInt64 0 ((v1 - 1).toInt64) v2 h2) (va_cwS 3 hts (lw_S q1294 q1295 q82 q1296) rfl rfl rfl m_in_ds.2 ⟨Nat.le_trans (Nat.le_of_ble_eq_true rfl) hRf, Nat.le_trans (Nat.le_of_ble_eq_true rfl) hRl⟩) hK WH_nil hcs rfl hl.1 rfl (Nat.le_of_ble_eq_true rfl) dX3_isPerson_13 ?_
  obtain ⟨hz, rfl⟩ := zO_e hf
  exact W.zret hx hb hr (nar_z hz) (fun t ht _ => ⟨rfl, ht⟩) (fun q hq => by cases hq) dX3_isPerson_16
theorem m_isPerson_ds : yX3_isPerson.cls = RX3 ∧ yX3_isPerson.cls ≠ "java/lang/invoke/MethodHandle" ∧ yX3_isPerson.cls ≠ "java/lang/invoke/VarHandle" ∧ (parseMethodDescriptor yX3_isPerson.desc).map (fun d => d.parameters.length) = some 1 := by decide +kernel
/-! lesser -/
def m_lesser (a0 : Int32) (a1 : Int32) : Option (Int32) :=
  ob1 (if a1 ≤ a0 then ((some a1 : Option (Int32))) else ((some a0 : Option (Int32)))) fun (v1 : Int32) =>
  some v1
set_option maxRecDepth 100000 in
set_option maxHeartbeats 4000000 in
theorem m_lesser_met (l : Launch) (D : dd_) (ad : Nat → Nat) (a0 : Int32) (a1 : Int32) (r : Int32) (hf : m_lesser a0 a1 = some r) : Met l yX3_lesser (ws_ yX3_lesser cX3_lesser 2 (some .int)) ({ frames := 1, cells := 0, slots := 0, locals := 16 }) (PcW D nS ad (fun _ => 0) (fun _ _ => 0) nR nG [.int a0, .int a1]) (QcR (some (.int r))) 0 0 (fun _ => False) := by
  refine Met.ofW (cc := cX3_lesser) (maxL := 2) (ret := (some .int)) (by decide) rfl ?_
  intro p e s m args below meth c s₁ B hml hv
  obtain ⟨rfl, hK, hW⟩ := hv
  have hx := B.exec
  have hb := B.bytes
  have hr := B.returns
  have hts := atoms_spec (ws := (ws_ yX3_lesser cX3_lesser 2 (some .int))) B.pre
  have hts : ∀ w ∈ lw_all, w.before _ s = true := fun w h => hts w (List.mem_cons_of_mem _ h)
  have hown : s.vm.findClass RX3 = some m.cls := findClass_of_methodNamed B.named
  have hlocks := B.notSynchronized
  have hRf : 1 ≤ (headSpec (ws_ yX3_lesser cX3_lesser 2 (some .int)) ({ frames := 1, cells := 0, slots := 0, locals := 16 })).room.frames := Nat.le_refl _
  have hRl : 16 ≤ (headSpec (ws_ yX3_lesser cX3_lesser 2 (some .int)) ({ frames := 1, cells := 0, slots := 0, locals := 16 })).room.locals := Nat.le_refl _
  have hcs : 0 ≤ (headSpec (ws_ yX3_lesser cX3_lesser 2 (some .int)) ({ frames := 1, cells := 0, slots := 0, locals := 16 })).room.cells ∧ 0 ≤ (headSpec (ws_ yX3_lesser cX3_lesser 2 (some .int)) ({ frames := 1, cells := 0, slots := 0, locals := 16 })).room.slots := ⟨Nat.zero_le _, Nat.zero_le _⟩
  have hl := lv_entry ([.int a0, .int a1]) (n := 2) (Nat.le_of_ble_eq_true rfl)
  rw [lg_entry_eq]
  generalize (lg_sl ([.int a0, .int a1]) ++ List.replicate (2 - (lg_sl ([.int a0, .int a1])).length) Slot.unset).toArray = ls at hl ⊢
  have hl : lv_has ls 2 [(0, .int a0), (1, .int a1)] := hl
  have hf : (ob1 (if a1 ≤ a0 then ((some a1 : Option (Int32))) else ((some a0 : Option (Int32)))) fun (v1 : Int32) =>
    some v1) = some r := hf
  refine lv_iload_n hx hb dX3_lesser_0 rfl (lv_at hl 0 rfl) ?_
  refine lv_iload_n hx hb dX3_lesser_1 rfl (lv_at hl 1 rfl) ?_
  obtain ⟨v1, hm1, hf⟩ := ob1_e hf
  refine w_cutL (nL := 2) (L := []) (pcj := 10) (st := [.int v1]) (fun ls hl => ?_) (fun K1 => ?_)
  · obtain rfl := so1 hf
    exact W.iret hx hb hr (fun t ht _ => ⟨rfl, ht⟩) (fun q hq => by cases hq) dX3_lesser_10
  · refine lv_icmp_ge (tgt := 9) hx hb dX3_lesser_2 (by decide) (fun c2 => ?_) (fun c2 => ?_)
    · rw [if_pos c2] at hm1
      refine lv_iload_n hx hb dX3_lesser_9 rfl (lv_at hl 1 rfl) ?_
      obtain rfl := so1 hm1
      exact K1 ls (lv_sub hl [] rfl)
    · rw [if_neg c2] at hm1
      refine lv_iload_n hx hb dX3_lesser_5 rfl (lv_at hl 0 rfl) ?_
      refine lv_goto (tgt := 10) hx hb dX3_lesser_6 (by decide) ?_
      obtain rfl := so1 hm1
      exact K1 ls (lv_sub hl [] rfl)
theorem m_lesser_ds : yX3_lesser.cls = RX3 ∧ yX3_lesser.cls ≠ "java/lang/invoke/MethodHandle" ∧ yX3_lesser.cls ≠ "java/lang/invoke/VarHandle" ∧ (parseMethodDescriptor yX3_lesser.desc).map (fun d => d.parameters.length) = some 2 := by decide +kernel
/-! poundsOf -/
def m_poundsOf (I : Nat → Int32) (A : Nat → Nat → Int32) (a0 : Int32) : Option (Int32) :=
  ob1 (ldO (A 0) 2044 (65 + a0)) fun (v1 : Int32) =>
  if v1 = 1 then (some 0) else (ob1 (ldO (A 0) 2044 (41 + a0)) fun (v3 : Int32) =>
    ob1 (ldO (A 0) 2044 (25 + a0)) fun (v4 : Int32) =>
    ob1 (ldO (A 0) 2044 (10 + v4)) fun (v5 : Int32) =>
    if v5 = 1 then (some v3) else if v5 = 2 then (ob1 (divO v3 2) fun (v8 : Int32) =>
      some v8) else if v5 = 3 then (ob1 (ldO (A 0) 2044 (57 + a0)) fun (v10 : Int32) =>
      ob1 (ldO (A 0) 2044 (33 + a0)) fun (v11 : Int32) =>
      ob1 (ldO (A 0) 2044 (20 + v11)) fun (v12 : Int32) =>
      ob1 (if v10 = v12 then ((some (2 * v3) : Option (Int32))) else ((some v3 : Option (Int32)))) fun (v13 : Int32) =>
      some v13) else if v5 = 4 then (ob1 (m_lesser v3 10) fun (v16 : Int32) =>
      some v16) else (some 0))
set_option maxRecDepth 100000 in
set_option maxHeartbeats 4000000 in
theorem m_poundsOf_met (l : Launch) (D : dd_) (ad : Nat → Nat) (I : Nat → Int32) (A : Nat → Nat → Int32) (a0 : Int32) (r : Int32) (hf : m_poundsOf I A a0 = some r) : Met l yX3_poundsOf (ws_ yX3_poundsOf cX3_poundsOf 3 (some .int)) ({ frames := 2, cells := 0, slots := 0, locals := 37 }) (PcW D mS ad I A nR nG [.ref (ad 99), .int a0]) (QcR (some (.int r))) 0 0 (fun _ => False) := by
  refine Met.ofW (cc := cX3_poundsOf) (maxL := 3) (ret := (some .int)) (by decide) rfl ?_
  intro p e s m args below meth c s₁ B hml hv
  obtain ⟨rfl, hK, hW⟩ := hv
  have hx := B.exec
  have hb := B.bytes
  have hr := B.returns
  have hts := atoms_spec (ws := (ws_ yX3_poundsOf cX3_poundsOf 3 (some .int))) B.pre
  have hts : ∀ w ∈ lw_all, w.before _ s = true := fun w h => hts w (List.mem_cons_of_mem _ h)
  have hown : s.vm.findClass RX3 = some m.cls := findClass_of_methodNamed B.named
  have hlocks := B.notSynchronized
  have hRf : 2 ≤ (headSpec (ws_ yX3_poundsOf cX3_poundsOf 3 (some .int)) ({ frames := 2, cells := 0, slots := 0, locals := 37 })).room.frames := Nat.le_refl _
  have hRl : 37 ≤ (headSpec (ws_ yX3_poundsOf cX3_poundsOf 3 (some .int)) ({ frames := 2, cells := 0, slots := 0, locals := 37 })).room.locals := Nat.le_refl _
  have hcs : 0 ≤ (headSpec (ws_ yX3_poundsOf cX3_poundsOf 3 (some .int)) ({ frames := 2, cells := 0, slots := 0, locals := 37 })).room.cells ∧ 0 ≤ (headSpec (ws_ yX3_poundsOf cX3_poundsOf 3 (some .int)) ({ frames := 2, cells := 0, slots := 0, locals := 37 })).room.slots := ⟨Nat.zero_le _, Nat.zero_le _⟩
  have hl := lv_entry ([.ref (ad 99), .int a0]) (n := 3) (Nat.le_of_ble_eq_true rfl)
  rw [lg_entry_eq]
  generalize (lg_sl ([.ref (ad 99), .int a0]) ++ List.replicate (3 - (lg_sl ([.ref (ad 99), .int a0])).length) Slot.unset).toArray = ls at hl ⊢
  have hl : lv_has ls 3 [(0, .ref (ad 99)), (1, .int a0)] := hl
  have hf : (ob1 (ldO (A 0) 2044 (65 + a0)) fun (v1 : Int32) =>
    if v1 = 1 then (some 0) else (ob1 (ldO (A 0) 2044 (41 + a0)) fun (v3 : Int32) =>
      ob1 (ldO (A 0) 2044 (25 + a0)) fun (v4 : Int32) =>
      ob1 (ldO (A 0) 2044 (10 + v4)) fun (v5 : Int32) =>
      if v5 = 1 then (some v3) else if v5 = 2 then (ob1 (divO v3 2) fun (v8 : Int32) =>
        some v8) else if v5 = 3 then (ob1 (ldO (A 0) 2044 (57 + a0)) fun (v10 : Int32) =>
        ob1 (ldO (A 0) 2044 (33 + a0)) fun (v11 : Int32) =>
        ob1 (ldO (A 0) 2044 (20 + v11)) fun (v12 : Int32) =>
        ob1 (if v10 = v12 then ((some (2 * v3) : Option (Int32))) else ((some v3 : Option (Int32)))) fun (v13 : Int32) =>
        some v13) else if v5 = 4 then (ob1 (m_lesser v3 10) fun (v16 : Int32) =>
        some v16) else (some 0))) = some r := hf
  refine lv_aload_n hx hb dX3_poundsOf_0 rfl (lv_at hl 0 rfl) ?_
  refine g_get (v := .ref (ad 0)) hx hb hts hown hK hW mO in_X3 rfl 0 (by decide) q1212 rfl rfl dX3_poundsOf_1 ?_
  refine lv_bipush (v := 65) hx hb dX3_poundsOf_4 (by decide) ?_
  refine lv_iload_n hx hb dX3_poundsOf_6 rfl (lv_at hl 1 rfl) ?_
  refine lv_iadd hx hb dX3_poundsOf_7 ?_
  obtain ⟨v1, hv1, hf⟩ := ob1_e hf
  refine g_iald hx hb hK hW mA0 hv1 dX3_poundsOf_8 ?_
  refine lv_iconst (v := 1) hx hb dX3_poundsOf_9 (by decide) ?_
  refine lv_icmp_ne (tgt := 15) hx hb dX3_poundsOf_10 (by decide) (fun c2 => ?_) (fun c2 => ?_)
  · rw [if_neg c2] at hf
    refine lv_aload_n hx hb dX3_poundsOf_15 rfl (lv_at hl 0 rfl) ?_
    refine g_get (v := .ref (ad 0)) hx hb hts hown hK hW mO in_X3 rfl 0 (by decide) q1212 rfl rfl dX3_poundsOf_16 ?_
    refine lv_bipush (v := 41) hx hb dX3_poundsOf_19 (by decide) ?_
    refine lv_iload_n hx hb dX3_poundsOf_21 rfl (lv_at hl 1 rfl) ?_
    refine lv_iadd hx hb dX3_poundsOf_22 ?_
    obtain ⟨v3, hv3, hf⟩ := ob1_e hf
    refine g_iald hx hb hK hW mA0 hv3 dX3_poundsOf_23 ?_
    refine lv_istore_n (lv' := [(2, .int v3), (0, .ref (ad 99)), (1, .int a0)]) hx hb dX3_poundsOf_24 rfl hl (by decide) rfl (fun ls hl => ?_)
    refine lv_aload_n hx hb dX3_poundsOf_25 rfl (lv_at hl 1 rfl) ?_
    refine g_get (v := .ref (ad 0)) hx hb hts hown hK hW mO in_X3 rfl 0 (by decide) q1212 rfl rfl dX3_poundsOf_26 ?_
    refine lv_bipush (v := 10) hx hb dX3_poundsOf_29 (by decide) ?_
    refine lv_aload_n hx hb dX3_poundsOf_31 rfl (lv_at hl 1 rfl) ?_
    refine g_get (v := .ref (ad 0)) hx hb hts hown hK hW mO in_X3 rfl 0 (by decide) q1212 rfl rfl dX3_poundsOf_32 ?_
    refine lv_bipush (v := 25) hx hb dX3_poundsOf_35 (by decide) ?_
    refine lv_iload_n hx hb dX3_poundsOf_37 rfl (lv_at hl 2 rfl) ?_
    refine lv_iadd hx hb dX3_poundsOf_38 ?_
    obtain ⟨v4, hv4, hf⟩ := ob1_e hf
    refine g_iald hx hb hK hW mA0 hv4 dX3_poundsOf_39 ?_
    refine lv_iadd hx hb dX3_poundsOf_40 ?_
    obtain ⟨v5, hv5, hf⟩ := ob1_e hf
    refine g_iald hx hb hK hW mA0 hv5 dX3_poundsOf_41 ?_
    by_cases c6 : v5 = 1
    · rw [if_pos c6] at hf
      refine g_tsI (tgt := 72) hx hb dX3_poundsOf_42 c6 (by decide) (by decide) rfl (by decide) ?_
      refine lv_iload_n hx hb dX3_poundsOf_72 rfl (lv_at hl 0 rfl) ?_
      obtain rfl := so1 hf
      exact W.iret hx hb hr (fun t ht _ => ⟨rfl, ht⟩) (fun q hq => by cases hq) dX3_poundsOf_73
    · rw [if_neg c6] at hf
      by_cases c7 : v5 = 2
      · rw [if_pos c7] at hf
        refine g_tsI (tgt := 74) hx hb dX3_poundsOf_42 c7 (by decide) (by decide) rfl (by decide) ?_
        refine lv_iload_n hx hb dX3_poundsOf_74 rfl (lv_at hl 0 rfl) ?_
        refine lv_iconst (v := 2) hx hb dX3_poundsOf_75 (by decide) ?_
        obtain ⟨v8, hv8, hf⟩ := ob1_e hf
        refine g_idiv hx hb hv8 dX3_poundsOf_76 ?_
        obtain rfl := so1 hf
        exact W.iret hx hb hr (fun t ht _ => ⟨rfl, ht⟩) (fun q hq => by cases hq) dX3_poundsOf_77
      · rw [if_neg c7] at hf
        by_cases c9 : v5 = 3
        · rw [if_pos c9] at hf
          refine g_tsI (tgt := 78) hx hb dX3_poundsOf_42 c9 (by decide) (by decide) rfl (by decide) ?_
          refine lv_aload_n hx hb dX3_poundsOf_78 rfl (lv_at hl 1 rfl) ?_
          refine g_get (v := .ref (ad 0)) hx hb hts hown hK hW mO in_X3 rfl 0 (by decide) q1212 rfl rfl dX3_poundsOf_79 ?_
          refine lv_bipush (v := 57) hx hb dX3_poundsOf_82 (by decide) ?_
          refine lv_iload_n hx hb dX3_poundsOf_84 rfl (lv_at hl 2 rfl) ?_
          refine lv_iadd hx hb dX3_poundsOf_85 ?_
          obtain ⟨v10, hv10, hf⟩ := ob1_e hf
          refine g_iald hx hb hK hW mA0 hv10 dX3_poundsOf_86 ?_
          refine lv_aload_n hx hb dX3_poundsOf_87 rfl (lv_at hl 1 rfl) ?_
          refine g_get (v := .ref (ad 0)) hx hb hts hown hK hW mO in_X3 rfl 0 (by decide) q1212 rfl rfl dX3_poundsOf_88 ?_
          refine lv_bipush (v := 20) hx hb dX3_poundsOf_91 (by decide) ?_
          refine lv_aload_n hx hb dX3_poundsOf_93 rfl (lv_at hl 1 rfl) ?_
          refine g_get (v := .ref (ad 0)) hx hb hts hown hK hW mO in_X3 rfl 0 (by decide) q1212 rfl rfl dX3_poundsOf_94 ?_
          refine lv_bipush (v := 33) hx hb dX3_poundsOf_97 (by decide) ?_
          refine lv_iload_n hx hb dX3_poundsOf_99 rfl (lv_at hl 2 rfl) ?_
          refine lv_iadd hx hb dX3_poundsOf_100 ?_
          obtain ⟨v11, hv11, hf⟩ := ob1_e hf
          refine g_iald hx hb hK hW mA0 hv11 dX3_poundsOf_101 ?_
          refine lv_iadd hx hb dX3_poundsOf_102 ?_
          obtain ⟨v12, hv12, hf⟩ := ob1_e hf
          refine g_iald hx hb hK hW mA0 hv12 dX3_poundsOf_103 ?_
          obtain ⟨v13, hm13, hf⟩ := ob1_e hf
          refine w_cutL (nL := 3) (L := []) (pcj := 114) (st := [.int v13]) (fun ls hl => ?_) (fun K13 => ?_)
          · obtain rfl := so1 hf
            exact W.iret hx hb hr (fun t ht _ => ⟨rfl, ht⟩) (fun q hq => by cases hq) dX3_poundsOf_114
          · refine lv_icmp_ne (tgt := 113) hx hb dX3_poundsOf_104 (by decide) (fun c14 => ?_) (fun c14 => ?_)
            · rw [if_neg c14] at hm13
              refine lv_iload_n hx hb dX3_poundsOf_113 rfl (lv_at hl 0 rfl) ?_
              obtain rfl := so1 hm13
              exact K13 ls (lv_sub hl [] rfl)
            · rw [if_pos c14] at hm13
              refine lv_iconst (v := 2) hx hb dX3_poundsOf_107 (by decide) ?_
              refine lv_iload_n hx hb dX3_poundsOf_108 rfl (lv_at hl 0 rfl) ?_
              refine lv_imul hx hb dX3_poundsOf_109 ?_
              refine lv_goto (tgt := 114) hx hb dX3_poundsOf_110 (by decide) ?_
              obtain rfl := so1 hm13
              exact K13 ls (lv_sub hl [] rfl)
        · rw [if_neg c9] at hf
          by_cases c15 : v5 = 4
          · rw [if_pos c15] at hf
            refine g_tsI (tgt := 115) hx hb dX3_poundsOf_42 c15 (by decide) (by decide) rfl (by decide) ?_
            refine lv_iload_n hx hb dX3_poundsOf_115 rfl (lv_at hl 0 rfl) ?_
            refine lv_bipush (v := 10) hx hb dX3_poundsOf_116 (by decide) ?_
            obtain ⟨v16, h16, hf⟩ := ob1_e hf
            refine g_sR (ov := some (.int v16)) (D := D) (Sc := nS) (adc := ad) (Ic := (fun _ => 0)) (Ac := (fun _ _ => 0)) (Rc := nR) (Gc := nG) (As := [.int v3, .int 10]) (rest := []) ⟨hx, hb, hml, hown, hts⟩ (m_lesser_met l D ad v3 10 v16 h16) (va_cwS 2 hts (lw_S q1417 q1418 q82 q1419) rfl rfl rfl m_lesser_ds.2 ⟨Nat.le_trans (Nat.le_of_ble_eq_true rfl) hRf, Nat.le_trans (Nat.le_of_ble_eq_true rfl) hRl⟩) hK WH_nil hcs rfl hl.1 rfl (Nat.le_of_ble_eq_true rfl) dX3_poundsOf_118 ?_
            obtain rfl := so1 hf
            exact W.iret hx hb hr (fun t ht _ => ⟨rfl, ht⟩) (fun q hq => by cases hq) dX3_poundsOf_121
          · rw [if_neg c15] at hf
            refine lv_tableOut (tgt := 122) hx hb dX3_poundsOf_42 (by have z0 := lv_neT c6 (show (1 : Int32).toInt = 1 by decide); have z1 := lv_neT c7 (show (2 : Int32).toInt = 2 by decide); have z2 := lv_neT c9 (show (3 : Int32).toInt = 3 by decide); have z3 := lv_neT c15 (show (4 : Int32).toInt = 4 by decide); omega) (by decide) ?_
            refine lv_iconst (v := 0) hx hb dX3_poundsOf_122 (by decide) ?_
            obtain rfl := so1 hf
            exact W.iret hx hb hr (fun t ht _ => ⟨rfl, ht⟩) (fun q hq => by cases hq) dX3_poundsOf_123
  · rw [if_pos c2] at hf
    refine lv_iconst (v := 0) hx hb dX3_poundsOf_13 (by decide) ?_
    obtain rfl := so1 hf
    exact W.iret hx hb hr (fun t ht _ => ⟨rfl, ht⟩) (fun q hq => by cases hq) dX3_poundsOf_14
theorem m_poundsOf_ds : yX3_poundsOf.cls = RX3 ∧ yX3_poundsOf.cls ≠ "java/lang/invoke/MethodHandle" ∧ yX3_poundsOf.cls ≠ "java/lang/invoke/VarHandle" ∧ (parseMethodDescriptor yX3_poundsOf.desc).map (fun d => d.parameters.length) = some 1 := by decide +kernel
/-! loadOf -/
def m_loadOf_L4 (I : Nat → Int32) (A : Nat → Nat → Int32) (u1 : Int32) : Nat → Int32 → Int32 → Option (Int32 × Int32)
  | 0, _, _ => none
  | n + 1, x2, x3 =>
    ob1 (ldO (A 0) 2044 7) fun (v1 : Int32) =>
    if v1 ≤ x3 then (some (x2, x3)) else (ob1 (ldO (A 0) 2044 (25 + x3)) fun (v3 : Int32) =>
      ob1 (if v3 = u1 then (ob1 (m_poundsOf I A x3) fun (v6 : Int32) =>
          (some v6 : Option (Int32))) else ((some 0 : Option (Int32)))) fun (v4 : Int32) =>
      m_loadOf_L4 I A u1 n (x2 + v4) (x3 + 1))
set_option maxRecDepth 100000 in
set_option maxHeartbeats 4000000 in
theorem m_loadOf_L4_w {p : Program} {l : Launch} {e : Env} {R0 : Room} {s : State} {m : MethodId} {args : Array Value} {below : List Frame} {meth : Method} {c : Code} {cells slots : Nat} {Q : State → Prop} {D : dd_} {ad : Nat → Nat} (hx : p.tables.exec = Jvm.exec) (hb : c.code = cX3_loadOf) (hml : c.maxLocals = 4) (hown : s.vm.findClass RX3 = some m.cls) (hts : ∀ w ∈ lw_all, w.before args s = true) (hK : Kx D s) (hRf : 3 ≤ R0.frames) (hRl : 59 ≤ R0.locals) (hcs : cells ≤ R0.cells ∧ slots ≤ R0.slots) {H : Heap} {locs : List Loc} (I : Nat → Int32) (A : Nat → Nat → Int32) (u1 : Int32) (hW : WH D mS ad I A nR nG H) (y2 : Int32) (y3 : Int32) (KX : ∀ (ls : Array Slot), lv_has ls 4 [(2, .int y2)] → W p l e R0 s m args below meth c H locs cells slots Q (F0 m 46 ls [])) : ∀ (n : Nat) (x2 : Int32) (x3 : Int32) (ls : Array Slot), m_loadOf_L4 I A u1 n x2 x3 = some (y2, y3) → lv_has ls 4 [(0, .ref (ad 99)), (1, .int u1), (2, .int x2), (3, .int x3)] → W p l e R0 s m args below meth c H locs cells slots Q (F0 m 4 ls []) := by
  intro n
  induction n with
  | zero =>
    intro x2 x3 ls hf
    exact nomatch (show (none : Option (Int32 × Int32)) = some (y2, y3) from hf)
  | succ n ih =>
    intro x2 x3 ls hf hl
    have hf : (ob1 (ldO (A 0) 2044 7) fun (v1 : Int32) =>
        if v1 ≤ x3 then (some (x2, x3)) else (ob1 (ldO (A 0) 2044 (25 + x3)) fun (v3 : Int32) =>
          ob1 (if v3 = u1 then (ob1 (m_poundsOf I A x3) fun (v6 : Int32) =>
              (some v6 : Option (Int32))) else ((some 0 : Option (Int32)))) fun (v4 : Int32) =>
          m_loadOf_L4 I A u1 n (x2 + v4) (x3 + 1))) = some (y2, y3) := hf
    refine lv_iload_n hx hb dX3_loadOf_4 rfl (lv_at hl 3 rfl) ?_
    refine lv_aload_n hx hb dX3_loadOf_5 rfl (lv_at hl 0 rfl) ?_
    refine g_get (v := .ref (ad 0)) hx hb hts hown hK hW mO in_X3 rfl 0 (by decide) q1212 rfl rfl dX3_loadOf_6 ?_
    refine lv_bipush (v := 7) hx hb dX3_loadOf_9 (by decide) ?_
    obtain ⟨v1, hv1, hf⟩ := ob1_e hf
    refine g_iald hx hb hK hW mA0 hv1 dX3_loadOf_11 ?_
    refine lv_icmp_ge (tgt := 46) hx hb dX3_loadOf_12 (by decide) (fun c2 => ?_) (fun c2 => ?_)
    · rw [if_pos c2] at hf
      obtain ⟨rfl, rfl⟩ := so2 hf
      exact KX ls (lv_sub hl [2] rfl)
    · rw [if_neg c2] at hf
      refine lv_iload_n hx hb dX3_loadOf_15 rfl (lv_at hl 2 rfl) ?_
      refine lv_aload_n hx hb dX3_loadOf_16 rfl (lv_at hl 0 rfl) ?_
      refine g_get (v := .ref (ad 0)) hx hb hts hown hK hW mO in_X3 rfl 0 (by decide) q1212 rfl rfl dX3_loadOf_17 ?_
      refine lv_bipush (v := 25) hx hb dX3_loadOf_20 (by decide) ?_
      refine lv_iload_n hx hb dX3_loadOf_22 rfl (lv_at hl 3 rfl) ?_
      refine lv_iadd hx hb dX3_loadOf_23 ?_
      obtain ⟨v3, hv3, hf⟩ := ob1_e hf
      refine g_iald hx hb hK hW mA0 hv3 dX3_loadOf_24 ?_
      refine lv_iload_n hx hb dX3_loadOf_25 rfl (lv_at hl 1 rfl) ?_
      obtain ⟨v4, hm4, hf⟩ := ob1_e hf
      refine w_cutL (nL := 4) (L := [(0, .ref (ad 99)), (1, .int u1), (3, .int x3)]) (pcj := 38) (st := [.int v4, .int x2]) (fun ls hl => ?_) (fun K4 => ?_)
      · refine lv_iadd hx hb dX3_loadOf_38 ?_
        refine lv_istore_n (lv' := [(2, .int (x2 + v4)), (0, .ref (ad 99)), (1, .int u1), (3, .int x3)]) hx hb dX3_loadOf_39 rfl hl (by decide) rfl (fun ls hl => ?_)
        refine lv_iinc (v := x3 + 1) (lv' := [(3, .int (x3 + 1)), (2, .int (x2 + v4)), (0, .ref (ad 99)), (1, .int u1)]) hx hb dX3_loadOf_40 hl (k := 3) rfl (by rfl) (by decide) rfl (fun ls hl => ?_)
        refine lv_goto (tgt := 4) hx hb dX3_loadOf_43 (by decide) ?_
        exact ih (x2 + v4) (x3 + 1) ls hf (lv_sub hl [2, 3, 1, 0] rfl)
      · refine lv_icmp_ne (tgt := 37) hx hb dX3_loadOf_26 (by decide) (fun c5 => ?_) (fun c5 => ?_)
        · rw [if_neg c5] at hm4
          refine lv_iconst (v := 0) hx hb dX3_loadOf_37 (by decide) ?_
          obtain rfl := so1 hm4
          exact K4 ls (lv_sub hl [0, 1, 3] rfl)
        · rw [if_pos c5] at hm4
          refine lv_aload_n hx hb dX3_loadOf_29 rfl (lv_at hl 0 rfl) ?_
          refine lv_iload_n hx hb dX3_loadOf_30 rfl (lv_at hl 3 rfl) ?_
          obtain ⟨v6, h6, hm4⟩ := ob1_e hm4
          refine g_vR (ov := some (.int v6)) (D := D) (Sc := mS) (adc := ad) (Ic := I) (Ac := A) (Rc := nR) (Gc := nG) (As := [.int x3]) (rest := [.int x2]) (b := ad 99) (C := RX3) ⟨hx, hb, hml, hown, hts⟩ (m_poundsOf_met l D ad I A x3 v6 h6) (g_cwV 1 hts (lw_V q1413 q1415 qs50 q82 q1416) rfl rfl m_poundsOf_ds ⟨Nat.le_trans (Nat.le_of_ble_eq_true rfl) hRf, Nat.le_trans (Nat.le_of_ble_eq_true rfl) hRl⟩) (g_recv hK hW mO rfl) hK hW hcs rfl hl.1 rfl (Nat.le_of_ble_eq_true rfl) dX3_loadOf_31 ?_
          refine lv_goto (tgt := 38) hx hb dX3_loadOf_34 (by decide) ?_
          obtain rfl := so1 hm4
          exact K4 ls (lv_sub hl [0, 1, 3] rfl)
def m_loadOf (I : Nat → Int32) (A : Nat → Nat → Int32) (a0 : Int32) : Option (Int32) :=
  ob2 (m_loadOf_L4 I A a0 NF 0 0) fun (v1 : Int32) (v2 : Int32) =>
  some v1
set_option maxRecDepth 100000 in
set_option maxHeartbeats 4000000 in
theorem m_loadOf_met (l : Launch) (D : dd_) (ad : Nat → Nat) (I : Nat → Int32) (A : Nat → Nat → Int32) (a0 : Int32) (r : Int32) (hf : m_loadOf I A a0 = some r) : Met l yX3_loadOf (ws_ yX3_loadOf cX3_loadOf 4 (some .int)) ({ frames := 3, cells := 0, slots := 0, locals := 59 }) (PcW D mS ad I A nR nG [.ref (ad 99), .int a0]) (QcR (some (.int r))) 0 0 (fun _ => False) := by
  refine Met.ofW (cc := cX3_loadOf) (maxL := 4) (ret := (some .int)) (by decide) rfl ?_
  intro p e s m args below meth c s₁ B hml hv
  obtain ⟨rfl, hK, hW⟩ := hv
  have hx := B.exec
  have hb := B.bytes
  have hr := B.returns
  have hts := atoms_spec (ws := (ws_ yX3_loadOf cX3_loadOf 4 (some .int))) B.pre
  have hts : ∀ w ∈ lw_all, w.before _ s = true := fun w h => hts w (List.mem_cons_of_mem _ h)
  have hown : s.vm.findClass RX3 = some m.cls := findClass_of_methodNamed B.named
  have hlocks := B.notSynchronized
  have hRf : 3 ≤ (headSpec (ws_ yX3_loadOf cX3_loadOf 4 (some .int)) ({ frames := 3, cells := 0, slots := 0, locals := 59 })).room.frames := Nat.le_refl _
  have hRl : 59 ≤ (headSpec (ws_ yX3_loadOf cX3_loadOf 4 (some .int)) ({ frames := 3, cells := 0, slots := 0, locals := 59 })).room.locals := Nat.le_refl _
  have hcs : 0 ≤ (headSpec (ws_ yX3_loadOf cX3_loadOf 4 (some .int)) ({ frames := 3, cells := 0, slots := 0, locals := 59 })).room.cells ∧ 0 ≤ (headSpec (ws_ yX3_loadOf cX3_loadOf 4 (some .int)) ({ frames := 3, cells := 0, slots := 0, locals := 59 })).room.slots := ⟨Nat.zero_le _, Nat.zero_le _⟩
  have hl := lv_entry ([.ref (ad 99), .int a0]) (n := 4) (Nat.le_of_ble_eq_true rfl)
  rw [lg_entry_eq]
  generalize (lg_sl ([.ref (ad 99), .int a0]) ++ List.replicate (4 - (lg_sl ([.ref (ad 99), .int a0])).length) Slot.unset).toArray = ls at hl ⊢
  have hl : lv_has ls 4 [(0, .ref (ad 99)), (1, .int a0)] := hl
  have hf : (ob2 (m_loadOf_L4 I A a0 NF 0 0) fun (v1 : Int32) (v2 : Int32) =>
    some v1) = some r := hf
  refine lv_iconst (v := 0) hx hb dX3_loadOf_0 (by decide) ?_
  refine lv_istore_n (lv' := [(2, .int 0), (0, .ref (ad 99)), (1, .int a0)]) hx hb dX3_loadOf_1 rfl hl (by decide) rfl (fun ls hl => ?_)
  refine lv_iconst (v := 0) hx hb dX3_loadOf_2 (by decide) ?_
  refine lv_istore_n (lv' := [(3, .int 0), (2, .int 0), (0, .ref (ad 99)), (1, .int a0)]) hx hb dX3_loadOf_3 rfl hl (by decide) rfl (fun ls hl => ?_)
  obtain ⟨v1, v2, hq2, hf⟩ := ob2_e hf
  refine m_loadOf_L4_w hx hb hml hown hts hK hRf hRl hcs I A a0 hW v1 v2 (fun ls hl => ?_) NF 0 0 ls hq2 (lv_sub hl [2, 3, 1, 0] rfl)
  refine lv_iload_n hx hb dX3_loadOf_46 rfl (lv_at hl 0 rfl) ?_
  obtain rfl := so1 hf
  exact W.iret hx hb hr (fun t ht _ => ⟨rfl, ht⟩) (fun q hq => by cases hq) dX3_loadOf_47
theorem m_loadOf_ds : yX3_loadOf.cls = RX3 ∧ yX3_loadOf.cls ≠ "java/lang/invoke/MethodHandle" ∧ yX3_loadOf.cls ≠ "java/lang/invoke/VarHandle" ∧ (parseMethodDescriptor yX3_loadOf.desc).map (fun d => d.parameters.length) = some 1 := by decide +kernel
/-! wants -/
def m_wants (I : Nat → Int32) (A : Nat → Nat → Int32) (a0 : Int32) (a1 : Int32) (a2 : Int32) : Option (Int32) :=
  ob1 (ldO (A 0) 2044 (0 + a2)) fun (v1 : Int32) =>
  ob1 (ldO (A 0) 2044 (0 + a1)) fun (v2 : Int32) =>
  ob1 (m_loadOf I A a0) fun (v3 : Int32) =>
  ob1 (if (v1 - v2) ≤ 0 then ((some 0 : Option (Int32))) else ((some (v1 - v2) : Option (Int32)))) fun (v4 : Int32) =>
  some (v3 + v4)
set_option maxRecDepth 100000 in
set_option maxHeartbeats 4000000 in
theorem m_wants_met (l : Launch) (D : dd_) (ad : Nat → Nat) (I : Nat → Int32) (A : Nat → Nat → Int32) (a0 : Int32) (a1 : Int32) (a2 : Int32) (r : Int32) (hf : m_wants I A a0 a1 a2 = some r) : Met l yX3_wants (ws_ yX3_wants cX3_wants 5 (some .int)) ({ frames := 4, cells := 0, slots := 0, locals := 82 }) (PcW D mS ad I A nR nG [.ref (ad 99), .int a0, .int a1, .int a2]) (QcR (some (.int r))) 0 0 (fun _ => False) := by
  refine Met.ofW (cc := cX3_wants) (maxL := 5) (ret := (some .int)) (by decide) rfl ?_
  intro p e s m args below meth c s₁ B hml hv
  obtain ⟨rfl, hK, hW⟩ := hv
  have hx := B.exec
  have hb := B.bytes
  have hr := B.returns
  have hts := atoms_spec (ws := (ws_ yX3_wants cX3_wants 5 (some .int))) B.pre
  have hts : ∀ w ∈ lw_all, w.before _ s = true := fun w h => hts w (List.mem_cons_of_mem _ h)
  have hown : s.vm.findClass RX3 = some m.cls := findClass_of_methodNamed B.named
  have hlocks := B.notSynchronized
  have hRf : 4 ≤ (headSpec (ws_ yX3_wants cX3_wants 5 (some .int)) ({ frames := 4, cells := 0, slots := 0, locals := 82 })).room.frames := Nat.le_refl _
  have hRl : 82 ≤ (headSpec (ws_ yX3_wants cX3_wants 5 (some .int)) ({ frames := 4, cells := 0, slots := 0, locals := 82 })).room.locals := Nat.le_refl _
  have hcs : 0 ≤ (headSpec (ws_ yX3_wants cX3_wants 5 (some .int)) ({ frames := 4, cells := 0, slots := 0, locals := 82 })).room.cells ∧ 0 ≤ (headSpec (ws_ yX3_wants cX3_wants 5 (some .int)) ({ frames := 4, cells := 0, slots := 0, locals := 82 })).room.slots := ⟨Nat.zero_le _, Nat.zero_le _⟩
  have hl := lv_entry ([.ref (ad 99), .int a0, .int a1, .int a2]) (n := 5) (Nat.le_of_ble_eq_true rfl)
  rw [lg_entry_eq]
  generalize (lg_sl ([.ref (ad 99), .int a0, .int a1, .int a2]) ++ List.replicate (5 - (lg_sl ([.ref (ad 99), .int a0, .int a1, .int a2])).length) Slot.unset).toArray = ls at hl ⊢
  have hl : lv_has ls 5 [(0, .ref (ad 99)), (1, .int a0), (2, .int a1), (3, .int a2)] := hl
  have hf : (ob1 (ldO (A 0) 2044 (0 + a2)) fun (v1 : Int32) =>
    ob1 (ldO (A 0) 2044 (0 + a1)) fun (v2 : Int32) =>
    ob1 (m_loadOf I A a0) fun (v3 : Int32) =>
    ob1 (if (v1 - v2) ≤ 0 then ((some 0 : Option (Int32))) else ((some (v1 - v2) : Option (Int32)))) fun (v4 : Int32) =>
    some (v3 + v4)) = some r := hf
  refine lv_aload_n hx hb dX3_wants_0 rfl (lv_at hl 0 rfl) ?_
  refine g_get (v := .ref (ad 0)) hx hb hts hown hK hW mO in_X3 rfl 0 (by decide) q1212 rfl rfl dX3_wants_1 ?_
  refine lv_iconst (v := 0) hx hb dX3_wants_4 (by decide) ?_
  refine lv_iload_n hx hb dX3_wants_5 rfl (lv_at hl 3 rfl) ?_
  refine lv_iadd hx hb dX3_wants_6 ?_
  obtain ⟨v1, hv1, hf⟩ := ob1_e hf
  refine g_iald hx hb hK hW mA0 hv1 dX3_wants_7 ?_
  refine lv_aload_n hx hb dX3_wants_8 rfl (lv_at hl 0 rfl) ?_
  refine g_get (v := .ref (ad 0)) hx hb hts hown hK hW mO in_X3 rfl 0 (by decide) q1212 rfl rfl dX3_wants_9 ?_
  refine lv_iconst (v := 0) hx hb dX3_wants_12 (by decide) ?_
  refine lv_iload_n hx hb dX3_wants_13 rfl (lv_at hl 2 rfl) ?_
  refine lv_iadd hx hb dX3_wants_14 ?_
  obtain ⟨v2, hv2, hf⟩ := ob1_e hf
  refine g_iald hx hb hK hW mA0 hv2 dX3_wants_15 ?_
  refine lv_isub hx hb dX3_wants_16 ?_
  refine lv_istore (lv' := [(4, .int (v1 - v2)), (0, .ref (ad 99)), (1, .int a0), (2, .int a1), (3, .int a2)]) hx hb dX3_wants_17 hl (by decide) rfl (fun ls hl => ?_)
  refine lv_aload_n hx hb dX3_wants_19 rfl (lv_at hl 1 rfl) ?_
  refine lv_iload_n hx hb dX3_wants_20 rfl (lv_at hl 2 rfl) ?_
  obtain ⟨v3, h3, hf⟩ := ob1_e hf
  refine g_vR (ov := some (.int v3)) (D := D) (Sc := mS) (adc := ad) (Ic := I) (Ac := A) (Rc := nR) (Gc := nG) (As := [.int a0]) (rest := []) (b := ad 99) (C := RX3) ⟨hx, hb, hml, hown, hts⟩ (m_loadOf_met l D ad I A a0 v3 h3) (g_cwV 1 hts (lw_V q1409 q1411 qs49 q82 q1412) rfl rfl m_loadOf_ds ⟨Nat.le_trans (Nat.le_of_ble_eq_true rfl) hRf, Nat.le_trans (Nat.le_of_ble_eq_true rfl) hRl⟩) (g_recv hK hW mO rfl) hK hW hcs rfl hl.1 rfl (Nat.le_of_ble_eq_true rfl) dX3_wants_21 ?_
  refine lv_iload hx hb dX3_wants_24 (lv_at hl 0 rfl) ?_
  obtain ⟨v4, hm4, hf⟩ := ob1_e hf
  refine w_cutL (nL := 5) (L := []) (pcj := 35) (st := [.int v4, .int v3]) (fun ls hl => ?_) (fun K4 => ?_)
  · refine lv_iadd hx hb dX3_wants_35 ?_
    obtain rfl := so1 hf
    exact W.iret hx hb hr (fun t ht _ => ⟨rfl, ht⟩) (fun q hq => by cases hq) dX3_wants_36
  · refine lv_if_le (tgt := 34) hx hb dX3_wants_26 (by decide) (fun c5 => ?_) (fun c5 => ?_)
    · rw [if_pos c5] at hm4
      refine lv_iconst (v := 0) hx hb dX3_wants_34 (by decide) ?_
      obtain rfl := so1 hm4
      exact K4 ls (lv_sub hl [] rfl)
    · rw [if_neg c5] at hm4
      refine lv_iload hx hb dX3_wants_29 (lv_at hl 0 rfl) ?_
      refine lv_goto (tgt := 35) hx hb dX3_wants_31 (by decide) ?_
      obtain rfl := so1 hm4
      exact K4 ls (lv_sub hl [] rfl)
theorem m_wants_ds : yX3_wants.cls = RX3 ∧ yX3_wants.cls ≠ "java/lang/invoke/MethodHandle" ∧ yX3_wants.cls ≠ "java/lang/invoke/VarHandle" ∧ (parseMethodDescriptor yX3_wants.desc).map (fun d => d.parameters.length) = some 3 := by decide +kernel
/-! canWalk -/
def m_canWalk (I : Nat → Int32) (A : Nat → Nat → Int32) (a0 : Int32) (a1 : Int32) : Option (Int32) :=
  ob1 (ldO (A 0) 2044 (20 + a0)) fun (v1 : Int32) =>
  ob1 (m_in ((v1 + a1).toInt64) 0 5) fun (v2 : Int32) =>
  ob1 (if v2 = 0 then ((some 0 : Option (Int32))) else (ob1 (ldO (A 0) 2044 (15 + a0)) fun (v5 : Int32) =>
      ob1 (ldO (A 0) 2044 (20 + a0)) fun (v6 : Int32) =>
      ob1 (m_wants I A a0 v6 (v1 + a1)) fun (v7 : Int32) =>
      if v5 < v7 then ((some 0 : Option (Int32))) else ((some 1 : Option (Int32))))) fun (v3 : Int32) =>
  zO v3
set_option maxRecDepth 100000 in
set_option maxHeartbeats 4000000 in
theorem m_canWalk_met (l : Launch) (D : dd_) (ad : Nat → Nat) (I : Nat → Int32) (A : Nat → Nat → Int32) (a0 : Int32) (a1 : Int32) (r : Int32) (hf : m_canWalk I A a0 a1 = some r) : Met l yX3_canWalk (ws_ yX3_canWalk cX3_canWalk 4 (some .boolean)) ({ frames := 5, cells := 0, slots := 0, locals := 106 }) (PcW D mS ad I A nR nG [.ref (ad 99), .int a0, .int a1]) (QcR (some (.int r))) 0 0 (fun _ => False) := by
  refine Met.ofW (cc := cX3_canWalk) (maxL := 4) (ret := (some .boolean)) (by decide) rfl ?_
  intro p e s m args below meth c s₁ B hml hv
  obtain ⟨rfl, hK, hW⟩ := hv
  have hx := B.exec
  have hb := B.bytes
  have hr := B.returns
  have hts := atoms_spec (ws := (ws_ yX3_canWalk cX3_canWalk 4 (some .boolean))) B.pre
  have hts : ∀ w ∈ lw_all, w.before _ s = true := fun w h => hts w (List.mem_cons_of_mem _ h)
  have hown : s.vm.findClass RX3 = some m.cls := findClass_of_methodNamed B.named
  have hlocks := B.notSynchronized
  have hRf : 5 ≤ (headSpec (ws_ yX3_canWalk cX3_canWalk 4 (some .boolean)) ({ frames := 5, cells := 0, slots := 0, locals := 106 })).room.frames := Nat.le_refl _
  have hRl : 106 ≤ (headSpec (ws_ yX3_canWalk cX3_canWalk 4 (some .boolean)) ({ frames := 5, cells := 0, slots := 0, locals := 106 })).room.locals := Nat.le_refl _
  have hcs : 0 ≤ (headSpec (ws_ yX3_canWalk cX3_canWalk 4 (some .boolean)) ({ frames := 5, cells := 0, slots := 0, locals := 106 })).room.cells ∧ 0 ≤ (headSpec (ws_ yX3_canWalk cX3_canWalk 4 (some .boolean)) ({ frames := 5, cells := 0, slots := 0, locals := 106 })).room.slots := ⟨Nat.zero_le _, Nat.zero_le _⟩
  have hl := lv_entry ([.ref (ad 99), .int a0, .int a1]) (n := 4) (Nat.le_of_ble_eq_true rfl)
  rw [lg_entry_eq]
  generalize (lg_sl ([.ref (ad 99), .int a0, .int a1]) ++ List.replicate (4 - (lg_sl ([.ref (ad 99), .int a0, .int a1])).length) Slot.unset).toArray = ls at hl ⊢
  have hl : lv_has ls 4 [(0, .ref (ad 99)), (1, .int a0), (2, .int a1)] := hl
  have hf : (ob1 (ldO (A 0) 2044 (20 + a0)) fun (v1 : Int32) =>
    ob1 (m_in ((v1 + a1).toInt64) 0 5) fun (v2 : Int32) =>
    ob1 (if v2 = 0 then ((some 0 : Option (Int32))) else (ob1 (ldO (A 0) 2044 (15 + a0)) fun (v5 : Int32) =>
        ob1 (ldO (A 0) 2044 (20 + a0)) fun (v6 : Int32) =>
        ob1 (m_wants I A a0 v6 (v1 + a1)) fun (v7 : Int32) =>
        if v5 < v7 then ((some 0 : Option (Int32))) else ((some 1 : Option (Int32))))) fun (v3 : Int32) =>
    zO v3) = some r := hf
  refine lv_aload_n hx hb dX3_canWalk_0 rfl (lv_at hl 0 rfl) ?_
  refine g_get (v := .ref (ad 0)) hx hb hts hown hK hW mO in_X3 rfl 0 (by decide) q1212 rfl rfl dX3_canWalk_1 ?_
  refine lv_bipush (v := 20) hx hb dX3_canWalk_4 (by decide) ?_
  refine lv_iload_n hx hb dX3_canWalk_6 rfl (lv_at hl 1 rfl) ?_
  refine lv_iadd hx hb dX3_canWalk_7 ?_
  obtain ⟨v1, hv1, hf⟩ := ob1_e hf
  refine g_iald hx hb hK hW mA0 hv1 dX3_canWalk_8 ?_
  refine lv_iload_n hx hb dX3_canWalk_9 rfl (lv_at hl 2 rfl) ?_
  refine lv_iadd hx hb dX3_canWalk_10 ?_
  refine lv_istore_n (lv' := [(3, .int (v1 + a1)), (0, .ref (ad 99)), (1, .int a0), (2, .int a1)]) hx hb dX3_canWalk_11 rfl hl (by decide) rfl (fun ls hl => ?_)
  refine lv_iload_n hx hb dX3_canWalk_12 rfl (lv_at hl 0 rfl) ?_
  refine lv_i2l (v := (v1 + a1).toInt64) hx hb dX3_canWalk_13 rfl ?_
  refine lv_lconst (v := 0) hx hb dX3_canWalk_14 (by decide) ?_
  refine lv_ldc2 (v := 5) hx hb hown (hts _ q1404) dX3_canWalk_15 ?_
  obtain ⟨v2, h2, hf⟩ := ob1_e hf
  refine g_sR (ov := some (.int v2)) (D := D) (Sc := nS) (adc := ad) (Ic := (fun _ => 0)) (Ac := (fun _ _ => 0)) (Rc := nR) (Gc := nG) (As := [.long ((v1 + a1).toInt64), .long 0, .long 5]) (rest := []) ⟨hx, hb, hml, hown, hts⟩ (m_in_met l D ad ((v1 + a1).toInt64) 0 5 v2 h2) (va_cwS 3 hts (lw_S q1294 q1295 q82 q1296) rfl rfl rfl m_in_ds.2 ⟨Nat.le_trans (Nat.le_of_ble_eq_true rfl) hRf, Nat.le_trans (Nat.le_of_ble_eq_true rfl) hRl⟩) hK WH_nil hcs rfl hl.1 rfl (Nat.le_of_ble_eq_true rfl) dX3_canWalk_18 ?_
  obtain ⟨v3, hm3, hf⟩ := ob1_e hf
  refine w_cutL (nL := 4) (L := []) (pcj := 56) (st := [.int v3]) (fun ls hl => ?_) (fun K3 => ?_)
  · obtain ⟨hz, rfl⟩ := zO_e hf
    exact W.zret hx hb hr (nar_z hz) (fun t ht _ => ⟨rfl, ht⟩) (fun q hq => by cases hq) dX3_canWalk_56
  · refine lv_if_eq (tgt := 55) hx hb dX3_canWalk_21 (by decide) (fun c4 => ?_) (fun c4 => ?_)
    · rw [if_pos c4] at hm3
      refine lv_iconst (v := 0) hx hb dX3_canWalk_55 (by decide) ?_
      obtain rfl := so1 hm3
      exact K3 ls (lv_sub hl [] rfl)
    · rw [if_neg c4] at hm3
      refine lv_aload_n hx hb dX3_canWalk_24 rfl (lv_at hl 1 rfl) ?_
      refine g_get (v := .ref (ad 0)) hx hb hts hown hK hW mO in_X3 rfl 0 (by decide) q1212 rfl rfl dX3_canWalk_25 ?_
      refine lv_bipush (v := 15) hx hb dX3_canWalk_28 (by decide) ?_
      refine lv_iload_n hx hb dX3_canWalk_30 rfl (lv_at hl 2 rfl) ?_
      refine lv_iadd hx hb dX3_canWalk_31 ?_
      obtain ⟨v5, hv5, hm3⟩ := ob1_e hm3
      refine g_iald hx hb hK hW mA0 hv5 dX3_canWalk_32 ?_
      refine lv_aload_n hx hb dX3_canWalk_33 rfl (lv_at hl 1 rfl) ?_
      refine lv_iload_n hx hb dX3_canWalk_34 rfl (lv_at hl 2 rfl) ?_
      refine lv_aload_n hx hb dX3_canWalk_35 rfl (lv_at hl 1 rfl) ?_
      refine g_get (v := .ref (ad 0)) hx hb hts hown hK hW mO in_X3 rfl 0 (by decide) q1212 rfl rfl dX3_canWalk_36 ?_
      refine lv_bipush (v := 20) hx hb dX3_canWalk_39 (by decide) ?_
      refine lv_iload_n hx hb dX3_canWalk_41 rfl (lv_at hl 2 rfl) ?_
      refine lv_iadd hx hb dX3_canWalk_42 ?_
      obtain ⟨v6, hv6, hm3⟩ := ob1_e hm3
      refine g_iald hx hb hK hW mA0 hv6 dX3_canWalk_43 ?_
      refine lv_iload_n hx hb dX3_canWalk_44 rfl (lv_at hl 0 rfl) ?_
      obtain ⟨v7, h7, hm3⟩ := ob1_e hm3
      refine g_vR (ov := some (.int v7)) (D := D) (Sc := mS) (adc := ad) (Ic := I) (Ac := A) (Rc := nR) (Gc := nG) (As := [.int a0, .int v6, .int (v1 + a1)]) (rest := [.int v5]) (b := ad 99) (C := RX3) ⟨hx, hb, hml, hown, hts⟩ (m_wants_met l D ad I A a0 v6 (v1 + a1) v7 h7) (g_cwV 3 hts (lw_V q1405 q1407 qs48 q82 q1408) rfl rfl m_wants_ds ⟨Nat.le_trans (Nat.le_of_ble_eq_true rfl) hRf, Nat.le_trans (Nat.le_of_ble_eq_true rfl) hRl⟩) (g_recv hK hW mO rfl) hK hW hcs rfl hl.1 rfl (Nat.le_of_ble_eq_true rfl) dX3_canWalk_45 ?_
      refine lv_icmp_lt (tgt := 55) hx hb dX3_canWalk_48 (by decide) (fun c8 => ?_) (fun c8 => ?_)
      · rw [if_pos c8] at hm3
        refine lv_iconst (v := 0) hx hb dX3_canWalk_55 (by decide) ?_
        obtain rfl := so1 hm3
        exact K3 ls (lv_sub hl [] rfl)
      · rw [if_neg c8] at hm3
        refine lv_iconst (v := 1) hx hb dX3_canWalk_51 (by decide) ?_
        refine lv_goto (tgt := 56) hx hb dX3_canWalk_52 (by decide) ?_
        obtain rfl := so1 hm3
        exact K3 ls (lv_sub hl [] rfl)
theorem m_canWalk_ds : yX3_canWalk.cls = RX3 ∧ yX3_canWalk.cls ≠ "java/lang/invoke/MethodHandle" ∧ yX3_canWalk.cls ≠ "java/lang/invoke/VarHandle" ∧ (parseMethodDescriptor yX3_canWalk.desc).map (fun d => d.parameters.length) = some 2 := by decide +kernel
/-! minds -/
def m_minds_L11 : Nat → (Nat → Int32) → (Nat → Nat → Int32) → Int32 → Option ((Nat → Int32) × (Nat → Nat → Int32) × Int32)
  | 0, _, _, _ => none
  | n + 1, I, A, x1 =>
    if 1679 ≤ x1 then (some (I, A, x1)) else (ob1 (ldO (A 0) 2044 ((292 + x1) + 73)) fun (v2 : Int32) =>
      ob1 (stO (A 0) 2044 (292 + x1) v2) fun (f3 : Nat → Int32) =>
      m_minds_L11 n I (va_up A 0 f3) (x1 + 1))
set_option maxRecDepth 100000 in
set_option maxHeartbeats 4000000 in
theorem m_minds_L11_w {p : Program} {l : Launch} {e : Env} {R0 : Room} {s : State} {m : MethodId} {args : Array Value} {below : List Frame} {meth : Method} {c : Code} {cells slots : Nat} {Q : State → Prop} {D : dd_} {ad : Nat → Nat} (hx : p.tables.exec = Jvm.exec) (hb : c.code = cX3_minds) (hml : c.maxLocals = 2) (hown : s.vm.findClass RX3 = some m.cls) (hts : ∀ w ∈ lw_all, w.before args s = true) (hK : Kx D s) (hRf : 1 ≤ R0.frames) (hRl : 16 ≤ R0.locals) (hcs : cells ≤ R0.cells ∧ slots ≤ R0.slots) (hI : Inj mS ad) (I9 : (Nat → Int32)) (A9 : (Nat → Nat → Int32)) (y1 : Int32) (KX : ∀ (H : Heap) (locs : List Loc) (ls : Array Slot), WH D mS ad I9 A9 nR nG H → va_S (frS mS ad) s.heap H locs → lv_has ls 2 [(0, .ref (ad 99))] → W p l e R0 s m args below meth c H locs cells slots Q (F0 m 47 ls [])) : ∀ (n : Nat) (I : (Nat → Int32)) (A : (Nat → Nat → Int32)) (x1 : Int32) (H : Heap) (locs : List Loc) (ls : Array Slot), m_minds_L11 n I A x1 = some (I9, A9, y1) → WH D mS ad I A nR nG H → va_S (frS mS ad) s.heap H locs → lv_has ls 2 [(0, .ref (ad 99)), (1, .int x1)] → W p l e R0 s m args below meth c H locs cells slots Q (F0 m 11 ls []) := by
  intro n
  have hA : ∀ i ∈ idxS mS, frS mS ad (ad i) := fun i hi => ⟨i, hi, rfl⟩
  induction n with
  | zero =>
    intro I A x1 H locs ls hf
    exact nomatch (show (none : Option ((Nat → Int32) × (Nat → Nat → Int32) × Int32)) = some (I9, A9, y1) from hf)
  | succ n ih =>
    intro I A x1 H locs ls hf hW hS hl
    have hf : (if 1679 ≤ x1 then (some (I, A, x1)) else (ob1 (ldO (A 0) 2044 ((292 + x1) + 73)) fun (v2 : Int32) =>
          ob1 (stO (A 0) 2044 (292 + x1) v2) fun (f3 : Nat → Int32) =>
          m_minds_L11 n I (va_up A 0 f3) (x1 + 1))) = some (I9, A9, y1) := hf
    refine lv_iload_n hx hb dX3_minds_11 rfl (lv_at hl 1 rfl) ?_
    refine lv_sipush (v := 1679) hx hb dX3_minds_12 (by decide) ?_
    refine lv_icmp_ge (tgt := 47) hx hb dX3_minds_15 (by decide) (fun c1 => ?_) (fun c1 => ?_)
    · rw [if_pos c1] at hf
      obtain ⟨rfl, rfl, rfl⟩ := so3 hf
      exact KX _ _ ls hW hS (lv_sub hl [0] rfl)
    · rw [if_neg c1] at hf
      refine lv_aload_n hx hb dX3_minds_18 rfl (lv_at hl 0 rfl) ?_
      refine g_get (v := .ref (ad 0)) hx hb hts hown hK hW mO in_X3 rfl 0 (by decide) q1212 rfl rfl dX3_minds_19 ?_
      refine lv_sipush (v := 292) hx hb dX3_minds_22 (by decide) ?_
      refine lv_iload_n hx hb dX3_minds_25 rfl (lv_at hl 1 rfl) ?_
      refine lv_iadd hx hb dX3_minds_26 ?_
      refine lv_aload_n hx hb dX3_minds_27 rfl (lv_at hl 0 rfl) ?_
      refine g_get (v := .ref (ad 0)) hx hb hts hown hK hW mO in_X3 rfl 0 (by decide) q1212 rfl rfl dX3_minds_28 ?_
      refine lv_sipush (v := 292) hx hb dX3_minds_31 (by decide) ?_
      refine lv_iload_n hx hb dX3_minds_34 rfl (lv_at hl 1 rfl) ?_
      refine lv_iadd hx hb dX3_minds_35 ?_
      refine lv_bipush (v := 73) hx hb dX3_minds_36 (by decide) ?_
      refine lv_iadd hx hb dX3_minds_38 ?_
      obtain ⟨v2, hv2, hf⟩ := ob1_e hf
      refine g_iald hx hb hK hW mA0 hv2 dX3_minds_39 ?_
      obtain ⟨f3, hf3, hf⟩ := ob1_e hf
      refine g_iast hx hb hK mwf hI hA hW hS mA0 hf3 dX3_minds_40 (fun H locs hW hS => ?_)
      refine lv_iinc (v := x1 + 1) (lv' := [(1, .int (x1 + 1)), (0, .ref (ad 99))]) hx hb dX3_minds_41 hl (k := 1) rfl (by rfl) (by decide) rfl (fun ls hl => ?_)
      refine lv_goto (tgt := 11) hx hb dX3_minds_44 (by decide) ?_
      exact ih I (va_up A 0 f3) (x1 + 1) _ _ ls hf hW hS (lv_sub hl [1, 0] rfl)
def m_minds_L59 : Nat → (Nat → Int32) → (Nat → Nat → Int32) → Int32 → Option ((Nat → Int32) × (Nat → Nat → Int32) × Int32)
  | 0, _, _, _ => none
  | n + 1, I, A, x1 =>
    if 73 ≤ x1 then (some (I, A, x1)) else (ob1 (ldO (A 0) 2044 x1) fun (v2 : Int32) =>
      ob1 (stO (A 0) 2044 ((292 + (73 * (I 1))) + x1) v2) fun (f3 : Nat → Int32) =>
      m_minds_L59 n I (va_up A 0 f3) (x1 + 1))
set_option maxRecDepth 100000 in
set_option maxHeartbeats 4000000 in
theorem m_minds_L59_w {p : Program} {l : Launch} {e : Env} {R0 : Room} {s : State} {m : MethodId} {args : Array Value} {below : List Frame} {meth : Method} {c : Code} {cells slots : Nat} {Q : State → Prop} {D : dd_} {ad : Nat → Nat} (hx : p.tables.exec = Jvm.exec) (hb : c.code = cX3_minds) (hml : c.maxLocals = 2) (hown : s.vm.findClass RX3 = some m.cls) (hts : ∀ w ∈ lw_all, w.before args s = true) (hK : Kx D s) (hRf : 1 ≤ R0.frames) (hRl : 16 ≤ R0.locals) (hcs : cells ≤ R0.cells ∧ slots ≤ R0.slots) (hI : Inj mS ad) (I9 : (Nat → Int32)) (A9 : (Nat → Nat → Int32)) (y1 : Int32) (KX : ∀ (H : Heap) (locs : List Loc) (ls : Array Slot), WH D mS ad I9 A9 nR nG H → va_S (frS mS ad) s.heap H locs → lv_has ls 2 [(0, .ref (ad 99))] → W p l e R0 s m args below meth c H locs cells slots Q (F0 m 95 ls [])) : ∀ (n : Nat) (I : (Nat → Int32)) (A : (Nat → Nat → Int32)) (x1 : Int32) (H : Heap) (locs : List Loc) (ls : Array Slot), m_minds_L59 n I A x1 = some (I9, A9, y1) → WH D mS ad I A nR nG H → va_S (frS mS ad) s.heap H locs → lv_has ls 2 [(0, .ref (ad 99)), (1, .int x1)] → W p l e R0 s m args below meth c H locs cells slots Q (F0 m 59 ls []) := by
  intro n
  have hA : ∀ i ∈ idxS mS, frS mS ad (ad i) := fun i hi => ⟨i, hi, rfl⟩
  induction n with
  | zero =>
    intro I A x1 H locs ls hf
    exact nomatch (show (none : Option ((Nat → Int32) × (Nat → Nat → Int32) × Int32)) = some (I9, A9, y1) from hf)
  | succ n ih =>
    intro I A x1 H locs ls hf hW hS hl
    have hf : (if 73 ≤ x1 then (some (I, A, x1)) else (ob1 (ldO (A 0) 2044 x1) fun (v2 : Int32) =>
          ob1 (stO (A 0) 2044 ((292 + (73 * (I 1))) + x1) v2) fun (f3 : Nat → Int32) =>
          m_minds_L59 n I (va_up A 0 f3) (x1 + 1))) = some (I9, A9, y1) := hf
    refine lv_iload_n hx hb dX3_minds_59 rfl (lv_at hl 1 rfl) ?_
    refine lv_bipush (v := 73) hx hb dX3_minds_60 (by decide) ?_
    refine lv_icmp_ge (tgt := 95) hx hb dX3_minds_62 (by decide) (fun c1 => ?_) (fun c1 => ?_)
    · rw [if_pos c1] at hf
      obtain ⟨rfl, rfl, rfl⟩ := so3 hf
      exact KX _ _ ls hW hS (lv_sub hl [0] rfl)
    · rw [if_neg c1] at hf
      refine lv_aload_n hx hb dX3_minds_65 rfl (lv_at hl 0 rfl) ?_
      refine g_get (v := .ref (ad 0)) hx hb hts hown hK hW mO in_X3 rfl 0 (by decide) q1212 rfl rfl dX3_minds_66 ?_
      refine lv_sipush (v := 292) hx hb dX3_minds_69 (by decide) ?_
      refine lv_bipush (v := 73) hx hb dX3_minds_72 (by decide) ?_
      refine lv_aload_n hx hb dX3_minds_74 rfl (lv_at hl 0 rfl) ?_
      refine g_get (v := .int (I 1)) hx hb hts hown hK hW mO in_X3 rfl 1 (by decide) q1213 rfl rfl dX3_minds_75 ?_
      refine lv_imul hx hb dX3_minds_78 ?_
      refine lv_iadd hx hb dX3_minds_79 ?_
      refine lv_iload_n hx hb dX3_minds_80 rfl (lv_at hl 1 rfl) ?_
      refine lv_iadd hx hb dX3_minds_81 ?_
      refine lv_aload_n hx hb dX3_minds_82 rfl (lv_at hl 0 rfl) ?_
      refine g_get (v := .ref (ad 0)) hx hb hts hown hK hW mO in_X3 rfl 0 (by decide) q1212 rfl rfl dX3_minds_83 ?_
      refine lv_iload_n hx hb dX3_minds_86 rfl (lv_at hl 1 rfl) ?_
      obtain ⟨v2, hv2, hf⟩ := ob1_e hf
      refine g_iald hx hb hK hW mA0 hv2 dX3_minds_87 ?_
      obtain ⟨f3, hf3, hf⟩ := ob1_e hf
      refine g_iast hx hb hK mwf hI hA hW hS mA0 hf3 dX3_minds_88 (fun H locs hW hS => ?_)
      refine lv_iinc (v := x1 + 1) (lv' := [(1, .int (x1 + 1)), (0, .ref (ad 99))]) hx hb dX3_minds_89 hl (k := 1) rfl (by rfl) (by decide) rfl (fun ls hl => ?_)
      refine lv_goto (tgt := 59) hx hb dX3_minds_92 (by decide) ?_
      exact ih I (va_up A 0 f3) (x1 + 1) _ _ ls hf hW hS (lv_sub hl [1, 0] rfl)
def m_minds (I : Nat → Int32) (A : Nat → Nat → Int32) : Option ((Nat → Int32) × (Nat → Nat → Int32)) :=
  ob2 (if (I 1) = 24 then (ob3 (m_minds_L11 NF I A 0) fun (I4 : Nat → Int32) (A5 : Nat → Nat → Int32) (v6 : Int32) =>
      (some (upd I4 1 ((I4 1) - 1), A5) : Option ((Nat → Int32) × (Nat → Nat → Int32)))) else ((some (I, A) : Option ((Nat → Int32) × (Nat → Nat → Int32))))) fun (I1 : Nat → Int32) (A2 : Nat → Nat → Int32) =>
  ob3 (m_minds_L59 NF I1 A2 0) fun (I7 : Nat → Int32) (A8 : Nat → Nat → Int32) (v9 : Int32) =>
  some (upd I7 1 ((I7 1) + 1), A8)
set_option maxRecDepth 100000 in
set_option maxHeartbeats 4000000 in
theorem m_minds_met (l : Launch) (D : dd_) (ad : Nat → Nat) (hI : Inj mS ad) (I : Nat → Int32) (A : Nat → Nat → Int32) (I1 : (Nat → Int32)) (A1 : (Nat → Nat → Int32)) (hf : m_minds I A  = some (I1, A1)) : Met l yX3_minds (ws_ yX3_minds cX3_minds 2 none) ({ frames := 1, cells := 0, slots := 0, locals := 16 }) (PcW D mS ad I A nR nG [.ref (ad 99)]) (QcW D mS ad I1 A1 nR nG (none)) 0 0 (frS mS ad) := by
  refine Met.ofW (cc := cX3_minds) (maxL := 2) (ret := none) (by decide) rfl ?_
  intro p e s m args below meth c s₁ B hml hv
  obtain ⟨rfl, hK, hW⟩ := hv
  have hx := B.exec
  have hb := B.bytes
  have hr := B.returns
  have hts := atoms_spec (ws := (ws_ yX3_minds cX3_minds 2 none)) B.pre
  have hts : ∀ w ∈ lw_all, w.before _ s = true := fun w h => hts w (List.mem_cons_of_mem _ h)
  have hown : s.vm.findClass RX3 = some m.cls := findClass_of_methodNamed B.named
  have hlocks := B.notSynchronized
  have hRf : 1 ≤ (headSpec (ws_ yX3_minds cX3_minds 2 none) ({ frames := 1, cells := 0, slots := 0, locals := 16 })).room.frames := Nat.le_refl _
  have hRl : 16 ≤ (headSpec (ws_ yX3_minds cX3_minds 2 none) ({ frames := 1, cells := 0, slots := 0, locals := 16 })).room.locals := Nat.le_refl _
  have hcs : 0 ≤ (headSpec (ws_ yX3_minds cX3_minds 2 none) ({ frames := 1, cells := 0, slots := 0, locals := 16 })).room.cells ∧ 0 ≤ (headSpec (ws_ yX3_minds cX3_minds 2 none) ({ frames := 1, cells := 0, slots := 0, locals := 16 })).room.slots := ⟨Nat.zero_le _, Nat.zero_le _⟩
  have hA : ∀ i ∈ idxS mS, frS mS ad (ad i) := fun i hi => ⟨i, hi, rfl⟩
  have hS : va_S (frS mS ad) s.heap s.heap [] := va_S.rf
  have hl := lv_entry ([.ref (ad 99)]) (n := 2) (Nat.le_of_ble_eq_true rfl)
  rw [lg_entry_eq]
  generalize (lg_sl ([.ref (ad 99)]) ++ List.replicate (2 - (lg_sl ([.ref (ad 99)])).length) Slot.unset).toArray = ls at hl ⊢
  have hl : lv_has ls 2 [(0, .ref (ad 99))] := hl
  have hf : (ob2 (if (I 1) = 24 then (ob3 (m_minds_L11 NF I A 0) fun (I4 : Nat → Int32) (A5 : Nat → Nat → Int32) (v6 : Int32) =>
        (some (upd I4 1 ((I4 1) - 1), A5) : Option ((Nat → Int32) × (Nat → Nat → Int32)))) else ((some (I, A) : Option ((Nat → Int32) × (Nat → Nat → Int32))))) fun (I1 : Nat → Int32) (A2 : Nat → Nat → Int32) =>
    ob3 (m_minds_L59 NF I1 A2 0) fun (I7 : Nat → Int32) (A8 : Nat → Nat → Int32) (v9 : Int32) =>
    some (upd I7 1 ((I7 1) + 1), A8)) = some (I1, A1) := hf
  refine lv_aload_n hx hb dX3_minds_0 rfl (lv_at hl 0 rfl) ?_
  refine g_get (v := .int (I 1)) hx hb hts hown hK hW mO in_X3 rfl 1 (by decide) q1213 rfl rfl dX3_minds_1 ?_
  refine lv_bipush (v := 24) hx hb dX3_minds_4 (by decide) ?_
  obtain ⟨I1, A2, hm2, hf⟩ := ob2_e hf
  refine w_cutH (A0 := frS mS ad) (H0 := s.heap) (X := WH D mS ad I1 A2 nR nG) (nL := 2) (L := [(0, .ref (ad 99))]) (pcj := 57) (st := []) (fun H locs ls hW hS hl => ?_) (fun K2 => ?_)
  · refine lv_iconst (v := 0) hx hb dX3_minds_57 (by decide) ?_
    refine lv_istore_n (lv' := [(1, .int 0), (0, .ref (ad 99))]) hx hb dX3_minds_58 rfl hl (by decide) rfl (fun ls hl => ?_)
    obtain ⟨I7, A8, v9, hq9, hf⟩ := ob3_e hf
    refine m_minds_L59_w hx hb hml hown hts hK hRf hRl hcs hI I7 A8 v9 (fun H locs ls hW hS hl => ?_) NF I1 A2 0 _ _ ls hq9 hW hS (lv_sub hl [1, 0] rfl)
    refine lv_aload_n hx hb dX3_minds_95 rfl (lv_at hl 0 rfl) ?_
    refine lv_dup hx hb dX3_minds_96 rfl ?_
    refine g_get (v := .int (I7 1)) hx hb hts hown hK hW mO in_X3 rfl 1 (by decide) q1213 rfl rfl dX3_minds_97 ?_
    refine lv_iconst (v := 1) hx hb dX3_minds_100 (by decide) ?_
    refine lv_iadd hx hb dX3_minds_101 ?_
    refine g_putI hx hb hts hown hK mwf hI hA hW hS mO in_X3 tyX3 tyX3_ok nmX3 rfl 1 1 (by decide) rfl q1213 rfl rfl (by decide +kernel) dX3_minds_102 (fun H locs hW hS => ?_)
    obtain ⟨rfl, rfl⟩ := so2 hf
    exact W.vret hx hb hr (fun t ht _ => ⟨rfl, by rw [ht]; exact hW, hS.F ht⟩) hS.2.2 dX3_minds_105
  · refine lv_icmp_ne (tgt := 57) hx hb dX3_minds_6 (by decide) (fun c3 => ?_) (fun c3 => ?_)
    · rw [if_neg c3] at hm2
      obtain ⟨rfl, rfl⟩ := so2 hm2
      exact K2 _ _ ls hW hS (lv_sub hl [0] rfl)
    · rw [if_pos c3] at hm2
      refine lv_iconst (v := 0) hx hb dX3_minds_9 (by decide) ?_
      refine lv_istore_n (lv' := [(1, .int 0), (0, .ref (ad 99))]) hx hb dX3_minds_10 rfl hl (by decide) rfl (fun ls hl => ?_)
      obtain ⟨I4, A5, v6, hq6, hm2⟩ := ob3_e hm2
      refine m_minds_L11_w hx hb hml hown hts hK hRf hRl hcs hI I4 A5 v6 (fun H locs ls hW hS hl => ?_) NF I A 0 _ _ ls hq6 hW hS (lv_sub hl [1, 0] rfl)
      refine lv_aload_n hx hb dX3_minds_47 rfl (lv_at hl 0 rfl) ?_
      refine lv_dup hx hb dX3_minds_48 rfl ?_
      refine g_get (v := .int (I4 1)) hx hb hts hown hK hW mO in_X3 rfl 1 (by decide) q1213 rfl rfl dX3_minds_49 ?_
      refine lv_iconst (v := 1) hx hb dX3_minds_52 (by decide) ?_
      refine lv_isub hx hb dX3_minds_53 ?_
      refine g_putI hx hb hts hown hK mwf hI hA hW hS mO in_X3 tyX3 tyX3_ok nmX3 rfl 1 1 (by decide) rfl q1213 rfl rfl (by decide +kernel) dX3_minds_54 (fun H locs hW hS => ?_)
      obtain ⟨rfl, rfl⟩ := so2 hm2
      exact K2 _ _ ls hW hS (lv_sub hl [0] rfl)
theorem m_minds_ds : yX3_minds.cls = RX3 ∧ yX3_minds.cls ≠ "java/lang/invoke/MethodHandle" ∧ yX3_minds.cls ≠ "java/lang/invoke/VarHandle" ∧ (parseMethodDescriptor yX3_minds.desc).map (fun d => d.parameters.length) = some 0 := by decide +kernel
/-! walk -/
def m_walk (I : Nat → Int32) (A : Nat → Nat → Int32) (a0 : Int32) (a1 : Int32) : Option (Int32 × (Nat → Int32) × (Nat → Nat → Int32)) :=
  ob1 (m_isPerson I A a0) fun (v1 : Int32) =>
  if v1 = 0 then (some ((-1000001), I, A)) else (if a1 = 1 then (ob1 (m_canWalk I A a0 a1) fun (v4 : Int32) =>
      if v4 = 0 then (some ((-1000002), I, A)) else (ob2 (m_minds I A ) fun (I6 : Nat → Int32) (A7 : Nat → Nat → Int32) =>
        ob1 (ldO (A7 0) 2044 (20 + a0)) fun (v8 : Int32) =>
        ob1 (stO (A7 0) 2044 (20 + a0) (v8 + a1)) fun (f9 : Nat → Int32) =>
        ob1 (ldO ((va_up A7 0 f9) 0) 2044 (20 + a0)) fun (v10 : Int32) =>
        some (v10, I6, va_up A7 0 f9))) else (if a1 = (-1) then (ob1 (m_canWalk I A a0 a1) fun (v12 : Int32) =>
        if v12 = 0 then (some ((-1000002), I, A)) else (ob2 (m_minds I A ) fun (I14 : Nat → Int32) (A15 : Nat → Nat → Int32) =>
          ob1 (ldO (A15 0) 2044 (20 + a0)) fun (v16 : Int32) =>
          ob1 (stO (A15 0) 2044 (20 + a0) (v16 + a1)) fun (f17 : Nat → Int32) =>
          ob1 (ldO ((va_up A15 0 f17) 0) 2044 (20 + a0)) fun (v18 : Int32) =>
          some (v18, I14, va_up A15 0 f17))) else (some ((-1000001), I, A))))
set_option maxRecDepth 100000 in
set_option maxHeartbeats 4000000 in
theorem m_walk_met (l : Launch) (D : dd_) (ad : Nat → Nat) (hI : Inj mS ad) (I : Nat → Int32) (A : Nat → Nat → Int32) (a0 : Int32) (a1 : Int32) (r : Int32) (I1 : (Nat → Int32)) (A1 : (Nat → Nat → Int32)) (hf : m_walk I A a0 a1 = some (r, I1, A1)) : Met l yX3_walk (ws_ yX3_walk cX3_walk 3 (some .int)) ({ frames := 6, cells := 0, slots := 0, locals := 129 }) (PcW D mS ad I A nR nG [.ref (ad 99), .int a0, .int a1]) (QcW D mS ad I1 A1 nR nG (some (.int r))) 0 0 (frS mS ad) := by
  refine Met.ofW (cc := cX3_walk) (maxL := 3) (ret := (some .int)) (by decide) rfl ?_
  intro p e s m args below meth c s₁ B hml hv
  obtain ⟨rfl, hK, hW⟩ := hv
  have hx := B.exec
  have hb := B.bytes
  have hr := B.returns
  have hts := atoms_spec (ws := (ws_ yX3_walk cX3_walk 3 (some .int))) B.pre
  have hts : ∀ w ∈ lw_all, w.before _ s = true := fun w h => hts w (List.mem_cons_of_mem _ h)
  have hown : s.vm.findClass RX3 = some m.cls := findClass_of_methodNamed B.named
  have hlocks := B.notSynchronized
  have hRf : 6 ≤ (headSpec (ws_ yX3_walk cX3_walk 3 (some .int)) ({ frames := 6, cells := 0, slots := 0, locals := 129 })).room.frames := Nat.le_refl _
  have hRl : 129 ≤ (headSpec (ws_ yX3_walk cX3_walk 3 (some .int)) ({ frames := 6, cells := 0, slots := 0, locals := 129 })).room.locals := Nat.le_refl _
  have hcs : 0 ≤ (headSpec (ws_ yX3_walk cX3_walk 3 (some .int)) ({ frames := 6, cells := 0, slots := 0, locals := 129 })).room.cells ∧ 0 ≤ (headSpec (ws_ yX3_walk cX3_walk 3 (some .int)) ({ frames := 6, cells := 0, slots := 0, locals := 129 })).room.slots := ⟨Nat.zero_le _, Nat.zero_le _⟩
  have hA : ∀ i ∈ idxS mS, frS mS ad (ad i) := fun i hi => ⟨i, hi, rfl⟩
  have hS : va_S (frS mS ad) s.heap s.heap [] := va_S.rf
  have hl := lv_entry ([.ref (ad 99), .int a0, .int a1]) (n := 3) (Nat.le_of_ble_eq_true rfl)
  rw [lg_entry_eq]
  generalize (lg_sl ([.ref (ad 99), .int a0, .int a1]) ++ List.replicate (3 - (lg_sl ([.ref (ad 99), .int a0, .int a1])).length) Slot.unset).toArray = ls at hl ⊢
  have hl : lv_has ls 3 [(0, .ref (ad 99)), (1, .int a0), (2, .int a1)] := hl
  have hf : (ob1 (m_isPerson I A a0) fun (v1 : Int32) =>
    if v1 = 0 then (some ((-1000001), I, A)) else (if a1 = 1 then (ob1 (m_canWalk I A a0 a1) fun (v4 : Int32) =>
        if v4 = 0 then (some ((-1000002), I, A)) else (ob2 (m_minds I A ) fun (I6 : Nat → Int32) (A7 : Nat → Nat → Int32) =>
          ob1 (ldO (A7 0) 2044 (20 + a0)) fun (v8 : Int32) =>
          ob1 (stO (A7 0) 2044 (20 + a0) (v8 + a1)) fun (f9 : Nat → Int32) =>
          ob1 (ldO ((va_up A7 0 f9) 0) 2044 (20 + a0)) fun (v10 : Int32) =>
          some (v10, I6, va_up A7 0 f9))) else (if a1 = (-1) then (ob1 (m_canWalk I A a0 a1) fun (v12 : Int32) =>
          if v12 = 0 then (some ((-1000002), I, A)) else (ob2 (m_minds I A ) fun (I14 : Nat → Int32) (A15 : Nat → Nat → Int32) =>
            ob1 (ldO (A15 0) 2044 (20 + a0)) fun (v16 : Int32) =>
            ob1 (stO (A15 0) 2044 (20 + a0) (v16 + a1)) fun (f17 : Nat → Int32) =>
            ob1 (ldO ((va_up A15 0 f17) 0) 2044 (20 + a0)) fun (v18 : Int32) =>
            some (v18, I14, va_up A15 0 f17))) else (some ((-1000001), I, A))))) = some (r, I1, A1) := hf
  refine lv_aload_n hx hb dX3_walk_0 rfl (lv_at hl 0 rfl) ?_
  refine lv_iload_n hx hb dX3_walk_1 rfl (lv_at hl 1 rfl) ?_
  obtain ⟨v1, h1, hf⟩ := ob1_e hf
  refine g_vR (ov := some (.int v1)) (D := D) (Sc := mS) (adc := ad) (Ic := I) (Ac := A) (Rc := nR) (Gc := nG) (As := [.int a0]) (rest := []) (b := ad 99) (C := RX3) ⟨hx, hb, hml, hown, hts⟩ (m_isPerson_met l D ad I A a0 v1 h1) (g_cwV 1 hts (lw_V q1396 q1398 qs46 q82 q1399) rfl rfl m_isPerson_ds ⟨Nat.le_trans (Nat.le_of_ble_eq_true rfl) hRf, Nat.le_trans (Nat.le_of_ble_eq_true rfl) hRl⟩) (g_recv hK hW mO rfl) hK hW hcs rfl hl.1 rfl (Nat.le_of_ble_eq_true rfl) dX3_walk_2 ?_
  refine lv_if_eq (tgt := 18) hx hb dX3_walk_5 (by decide) (fun c2 => ?_) (fun c2 => ?_)
  · rw [if_pos c2] at hf
    refine lv_ldc (v := (-1000001)) hx hb hown (hts _ q1298) dX3_walk_18 ?_
    obtain ⟨rfl, rfl, rfl⟩ := so3 hf
    exact W.iret hx hb hr (fun t ht _ => ⟨rfl, by rw [ht]; exact hW, hS.F ht⟩) hS.2.2 dX3_walk_20
  · rw [if_neg c2] at hf
    refine lv_iload_n hx hb dX3_walk_8 rfl (lv_at hl 2 rfl) ?_
    refine lv_iconst (v := 1) hx hb dX3_walk_9 (by decide) ?_
    refine lv_icmp_eq (tgt := 21) hx hb dX3_walk_10 (by decide) (fun c3 => ?_) (fun c3 => ?_)
    · rw [if_pos c3] at hf
      refine lv_aload_n hx hb dX3_walk_21 rfl (lv_at hl 0 rfl) ?_
      refine lv_iload_n hx hb dX3_walk_22 rfl (lv_at hl 1 rfl) ?_
      refine lv_iload_n hx hb dX3_walk_23 rfl (lv_at hl 2 rfl) ?_
      obtain ⟨v4, h4, hf⟩ := ob1_e hf
      refine g_vR (ov := some (.int v4)) (D := D) (Sc := mS) (adc := ad) (Ic := I) (Ac := A) (Rc := nR) (Gc := nG) (As := [.int a0, .int a1]) (rest := []) (b := ad 99) (C := RX3) ⟨hx, hb, hml, hown, hts⟩ (m_canWalk_met l D ad I A a0 a1 v4 h4) (g_cwV 2 hts (lw_V q1400 q1402 qs47 q82 q1403) rfl rfl m_canWalk_ds ⟨Nat.le_trans (Nat.le_of_ble_eq_true rfl) hRf, Nat.le_trans (Nat.le_of_ble_eq_true rfl) hRl⟩) (g_recv hK hW mO rfl) hK hW hcs rfl hl.1 rfl (Nat.le_of_ble_eq_true rfl) dX3_walk_24 ?_
      refine lv_if_ne (tgt := 33) hx hb dX3_walk_27 (by decide) (fun c5 => ?_) (fun c5 => ?_)
      · rw [if_neg c5] at hf
        refine lv_aload_n hx hb dX3_walk_33 rfl (lv_at hl 0 rfl) ?_
        obtain ⟨I6, A7, h7, hf⟩ := ob2_e hf
        refine g_vW (ov := none) (D := D) (Sc := mS) (adc := ad) (Ic := I) (Ac := A) (Rc := nR) (Gc := nG) (As := []) (rest := []) (Ic1 := I6) (Ac1 := A7) (Rc1 := nR) (Gc1 := nG) (b := ad 99) (C := RX3) ⟨hx, hb, hml, hown, hts⟩ (m_minds_met l D ad hI I A  I6 A7 h7) (g_cwV 0 hts (lw_V q1420 q1422 qs51 q82 q1423) rfl rfl m_minds_ds ⟨Nat.le_trans (Nat.le_of_ble_eq_true rfl) hRf, Nat.le_trans (Nat.le_of_ble_eq_true rfl) hRl⟩) (g_recv hK hW mO rfl) hK hW hS hA hcs rfl hl.1 rfl (Nat.le_of_ble_eq_true rfl) dX3_walk_34 (fun H locs hW _ hS => ?_)
        refine lv_aload_n hx hb dX3_walk_37 rfl (lv_at hl 0 rfl) ?_
        refine g_get (v := .ref (ad 0)) hx hb hts hown hK hW mO in_X3 rfl 0 (by decide) q1212 rfl rfl dX3_walk_38 ?_
        refine lv_bipush (v := 20) hx hb dX3_walk_41 (by decide) ?_
        refine lv_iload_n hx hb dX3_walk_43 rfl (lv_at hl 1 rfl) ?_
        refine lv_iadd hx hb dX3_walk_44 ?_
        refine lv_dup2_11 hx hb dX3_walk_45 rfl rfl ?_
        obtain ⟨v8, hv8, hf⟩ := ob1_e hf
        refine g_iald hx hb hK hW mA0 hv8 dX3_walk_46 ?_
        refine lv_iload_n hx hb dX3_walk_47 rfl (lv_at hl 2 rfl) ?_
        refine lv_iadd hx hb dX3_walk_48 ?_
        obtain ⟨f9, hf9, hf⟩ := ob1_e hf
        refine g_iast hx hb hK mwf hI hA hW hS mA0 hf9 dX3_walk_49 (fun H locs hW hS => ?_)
        refine lv_aload_n hx hb dX3_walk_50 rfl (lv_at hl 0 rfl) ?_
        refine g_get (v := .ref (ad 0)) hx hb hts hown hK hW mO in_X3 rfl 0 (by decide) q1212 rfl rfl dX3_walk_51 ?_
        refine lv_bipush (v := 20) hx hb dX3_walk_54 (by decide) ?_
        refine lv_iload_n hx hb dX3_walk_56 rfl (lv_at hl 1 rfl) ?_
        refine lv_iadd hx hb dX3_walk_57 ?_
        obtain ⟨v10, hv10, hf⟩ := ob1_e hf
        refine g_iald hx hb hK hW mA0 hv10 dX3_walk_58 ?_
        obtain ⟨rfl, rfl, rfl⟩ := so3 hf
        exact W.iret hx hb hr (fun t ht _ => ⟨rfl, by rw [ht]; exact hW, hS.F ht⟩) hS.2.2 dX3_walk_59
      · rw [if_pos c5] at hf
        refine lv_ldc (v := (-1000002)) hx hb hown (hts _ q1391) dX3_walk_30 ?_
        obtain ⟨rfl, rfl, rfl⟩ := so3 hf
        exact W.iret hx hb hr (fun t ht _ => ⟨rfl, by rw [ht]; exact hW, hS.F ht⟩) hS.2.2 dX3_walk_32
    · rw [if_neg c3] at hf
      refine lv_iload_n hx hb dX3_walk_13 rfl (lv_at hl 2 rfl) ?_
      refine lv_iconst (v := (-1)) hx hb dX3_walk_14 (by decide) ?_
      refine lv_icmp_eq (tgt := 21) hx hb dX3_walk_15 (by decide) (fun c11 => ?_) (fun c11 => ?_)
      · rw [if_pos c11] at hf
        refine lv_aload_n hx hb dX3_walk_21 rfl (lv_at hl 0 rfl) ?_
        refine lv_iload_n hx hb dX3_walk_22 rfl (lv_at hl 1 rfl) ?_
        refine lv_iload_n hx hb dX3_walk_23 rfl (lv_at hl 2 rfl) ?_
        obtain ⟨v12, h12, hf⟩ := ob1_e hf
        refine g_vR (ov := some (.int v12)) (D := D) (Sc := mS) (adc := ad) (Ic := I) (Ac := A) (Rc := nR) (Gc := nG) (As := [.int a0, .int a1]) (rest := []) (b := ad 99) (C := RX3) ⟨hx, hb, hml, hown, hts⟩ (m_canWalk_met l D ad I A a0 a1 v12 h12) (g_cwV 2 hts (lw_V q1400 q1402 qs47 q82 q1403) rfl rfl m_canWalk_ds ⟨Nat.le_trans (Nat.le_of_ble_eq_true rfl) hRf, Nat.le_trans (Nat.le_of_ble_eq_true rfl) hRl⟩) (g_recv hK hW mO rfl) hK hW hcs rfl hl.1 rfl (Nat.le_of_ble_eq_true rfl) dX3_walk_24 ?_
        refine lv_if_ne (tgt := 33) hx hb dX3_walk_27 (by decide) (fun c13 => ?_) (fun c13 => ?_)
        · rw [if_neg c13] at hf
          refine lv_aload_n hx hb dX3_walk_33 rfl (lv_at hl 0 rfl) ?_
          obtain ⟨I14, A15, h15, hf⟩ := ob2_e hf
          refine g_vW (ov := none) (D := D) (Sc := mS) (adc := ad) (Ic := I) (Ac := A) (Rc := nR) (Gc := nG) (As := []) (rest := []) (Ic1 := I14) (Ac1 := A15) (Rc1 := nR) (Gc1 := nG) (b := ad 99) (C := RX3) ⟨hx, hb, hml, hown, hts⟩ (m_minds_met l D ad hI I A  I14 A15 h15) (g_cwV 0 hts (lw_V q1420 q1422 qs51 q82 q1423) rfl rfl m_minds_ds ⟨Nat.le_trans (Nat.le_of_ble_eq_true rfl) hRf, Nat.le_trans (Nat.le_of_ble_eq_true rfl) hRl⟩) (g_recv hK hW mO rfl) hK hW hS hA hcs rfl hl.1 rfl (Nat.le_of_ble_eq_true rfl) dX3_walk_34 (fun H locs hW _ hS => ?_)
          refine lv_aload_n hx hb dX3_walk_37 rfl (lv_at hl 0 rfl) ?_
          refine g_get (v := .ref (ad 0)) hx hb hts hown hK hW mO in_X3 rfl 0 (by decide) q1212 rfl rfl dX3_walk_38 ?_
          refine lv_bipush (v := 20) hx hb dX3_walk_41 (by decide) ?_
          refine lv_iload_n hx hb dX3_walk_43 rfl (lv_at hl 1 rfl) ?_
          refine lv_iadd hx hb dX3_walk_44 ?_
          refine lv_dup2_11 hx hb dX3_walk_45 rfl rfl ?_
          obtain ⟨v16, hv16, hf⟩ := ob1_e hf
          refine g_iald hx hb hK hW mA0 hv16 dX3_walk_46 ?_
          refine lv_iload_n hx hb dX3_walk_47 rfl (lv_at hl 2 rfl) ?_
          refine lv_iadd hx hb dX3_walk_48 ?_
          obtain ⟨f17, hf17, hf⟩ := ob1_e hf
          refine g_iast hx hb hK mwf hI hA hW hS mA0 hf17 dX3_walk_49 (fun H locs hW hS => ?_)
          refine lv_aload_n hx hb dX3_walk_50 rfl (lv_at hl 0 rfl) ?_
          refine g_get (v := .ref (ad 0)) hx hb hts hown hK hW mO in_X3 rfl 0 (by decide) q1212 rfl rfl dX3_walk_51 ?_
          refine lv_bipush (v := 20) hx hb dX3_walk_54 (by decide) ?_
          refine lv_iload_n hx hb dX3_walk_56 rfl (lv_at hl 1 rfl) ?_
          refine lv_iadd hx hb dX3_walk_57 ?_
          obtain ⟨v18, hv18, hf⟩ := ob1_e hf
          refine g_iald hx hb hK hW mA0 hv18 dX3_walk_58 ?_
          obtain ⟨rfl, rfl, rfl⟩ := so3 hf
          exact W.iret hx hb hr (fun t ht _ => ⟨rfl, by rw [ht]; exact hW, hS.F ht⟩) hS.2.2 dX3_walk_59
        · rw [if_pos c13] at hf
          refine lv_ldc (v := (-1000002)) hx hb hown (hts _ q1391) dX3_walk_30 ?_
          obtain ⟨rfl, rfl, rfl⟩ := so3 hf
          exact W.iret hx hb hr (fun t ht _ => ⟨rfl, by rw [ht]; exact hW, hS.F ht⟩) hS.2.2 dX3_walk_32
      · rw [if_neg c11] at hf
        refine lv_ldc (v := (-1000001)) hx hb hown (hts _ q1298) dX3_walk_18 ?_
        obtain ⟨rfl, rfl, rfl⟩ := so3 hf
        exact W.iret hx hb hr (fun t ht _ => ⟨rfl, by rw [ht]; exact hW, hS.F ht⟩) hS.2.2 dX3_walk_20
theorem m_walk_ds : yX3_walk.cls = RX3 ∧ yX3_walk.cls ≠ "java/lang/invoke/MethodHandle" ∧ yX3_walk.cls ≠ "java/lang/invoke/VarHandle" ∧ (parseMethodDescriptor yX3_walk.desc).map (fun d => d.parameters.length) = some 2 := by decide +kernel
