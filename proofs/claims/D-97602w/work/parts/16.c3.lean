/-! a parish: its world -/
abbrev pS : sp_ := ([(99, 2, [.inr (.inl 0), .inr (.inr 1), .inr (.inl 2), .inr (.inl 3), .inl 4, .inr (.inl 5), .inr (.inl 6), .inr (.inl 7), .inr (.inl 8), .inr (.inl 9), .inl 10, .inl 11])], [(0, 6, .int), (2, 5, .int), (3, 5, .int), (5, 8, .int), (6, 8, .int), (7, 8, .int), (8, 8, .int), (9, 8, .int)], [])
theorem pwf : wfS pS := ⟨by decide +kernel, by decide +kernel, by decide +kernel, by decide +kernel, by decide +kernel, by decide +kernel⟩
theorem pO : ((99, 2, [.inr (.inl 0), .inr (.inr 1), .inr (.inl 2), .inr (.inl 3), .inl 4, .inr (.inl 5), .inr (.inl 6), .inr (.inl 7), .inr (.inl 8), .inr (.inl 9), .inl 10, .inl 11]) : Nat × Nat × List fc_) ∈ pS.1 := List.mem_of_getElem? (i := 0) rfl
theorem pA0 : ((0, 6, .int) : Nat × Nat × FieldType) ∈ pS.2.1 := List.mem_of_getElem? (i := 0) rfl
theorem pA2 : ((2, 5, .int) : Nat × Nat × FieldType) ∈ pS.2.1 := List.mem_of_getElem? (i := 1) rfl
theorem pA3 : ((3, 5, .int) : Nat × Nat × FieldType) ∈ pS.2.1 := List.mem_of_getElem? (i := 2) rfl
theorem pA5 : ((5, 8, .int) : Nat × Nat × FieldType) ∈ pS.2.1 := List.mem_of_getElem? (i := 3) rfl
theorem pA6 : ((6, 8, .int) : Nat × Nat × FieldType) ∈ pS.2.1 := List.mem_of_getElem? (i := 4) rfl
theorem pA7 : ((7, 8, .int) : Nat × Nat × FieldType) ∈ pS.2.1 := List.mem_of_getElem? (i := 5) rfl
theorem pA8 : ((8, 8, .int) : Nat × Nat × FieldType) ∈ pS.2.1 := List.mem_of_getElem? (i := 6) rfl
theorem pA9 : ((9, 8, .int) : Nat × Nat × FieldType) ∈ pS.2.1 := List.mem_of_getElem? (i := 7) rfl
def k_pounds (kd : Nat) (a0 : Int32) (a1 : Int32) : Option Int32 := if kd = 1 then k9_pounds a0 a1 else if kd = 2 then k10_pounds a0 a1 else if kd = 3 then k11_pounds a0 a1 else if kd = 4 then k12_pounds a0 a1 else k13_pounds a0 a1
set_option maxHeartbeats 4000000 in
theorem pe_pounds_X1 {p : Program} {l : Launch} {e : Env} {R0 : Room} {s : State} {m : MethodId} {args : Array Value} {below : List Frame} {meth : Method} {c : Code} {H : Heap} {locs : List Loc} {cells slots : Nat} {Q : State → Prop} {cc : ByteArray} {pc nL : Nat} {ls : Array Slot} {rest : List Value} {D : dd_} {s0 : State} {S : sp_} {ad : Nat → Nat} {I : Nat → Int32} {A : Nat → Nat → Int32} {R : Nat → Option Nat} {G : Nat → Nat → Option Nat} {X : va_W} {base : Nat} {b kd : Nat} {z : Int32} (hx : p.tables.exec = Jvm.exec) (hb : c.code = cc) (hml : c.maxLocals = nL) (hown : s.vm.findClass RX1 = some m.cls) (hts : ∀ w ∈ lw_all, w.before args s = true) (hK : Kx D s) (hY : s0.WarmedH s.vm) (h0 : ∀ w ∈ lw_tbl, va_Nw w s0) (hRf : 3 ≤ R0.frames) (hRl : 76 ≤ R0.locals) (hcs : cells ≤ R0.cells ∧ slots ≤ R0.slots) (hB : base ≤ H.size) (hW : WX D S ad I A R G X H) (hm : (b, Sum.inr (7 + kd, [.int z])) ∈ X) (h1 : 1 ≤ kd) (h5 : kd ≤ 5) {a0 : Int32} {a1 : Int32} {v : Int32} (h : k_pounds kd a0 a1 = some v) (hls : ls.size = nL) (hr : (rest.map fun v => v.category).sum ≤ 8) (hdg : decode cc pc = .ok (.invokevirtual 75, 3)) (kk : W p l e R0 s m args below meth c H locs cells slots Q (F0 m (pc + 3) ls (.int v :: rest))) : W p l e R0 s m args below meth c H locs cells slots Q (F0 m pc ls (.int a1 :: .int a0 :: .ref b :: rest)) := by
  have hc : kd = 1 ∨ kd = 2 ∨ kd = 3 ∨ kd = 4 ∨ kd = 5 := by omega
  have hm2 := List.mem_append_right (wl D S ad I A R G) hm
  rcases hc with rfl | rfl | rfl | rfl | rfl
  · exact x_uR (ov := some (.int v)) (D := D) (s0 := s0) (Sc := nS) (adc := ad) (Ic := fun _ => 0) (Ac := fun _ _ => 0) (Rc := nR) (Gc := nG) (Xc := wl D S ad I A R G ++ X) (base := base) (b := b) (As := [.int a0, .int a1]) (rest := rest) (C := RX9) ⟨hx, hb, hml, hown, hts⟩ (k9_pounds_met l D s0 h0 ad (wl D S ad I A R G ++ X) base b a0 a1  v h) (va_cwA (owner := RX8) 2 hts (lw_U q804 q806 q817 q811 q98 q812) rfl rfl rfl (va_Nw.warmD hY (h0 _ q805)) (by decide +kernel) ⟨Nat.le_trans (Nat.le_of_ble_eq_true rfl) hRf, Nat.le_trans (Nat.le_of_ble_eq_true rfl) hRl⟩) (x_recvD (ci := 8) hK hW hm rfl) hK hY hB hW hcs rfl hls rfl hr hdg kk
  · exact x_uR (ov := some (.int v)) (D := D) (s0 := s0) (Sc := nS) (adc := ad) (Ic := fun _ => 0) (Ac := fun _ _ => 0) (Rc := nR) (Gc := nG) (Xc := wl D S ad I A R G ++ X) (base := base) (b := b) (As := [.int a0, .int a1]) (rest := rest) (C := RX10) ⟨hx, hb, hml, hown, hts⟩ (k10_pounds_met l D s0 h0 ad (wl D S ad I A R G ++ X) base b _ hm2 a0 a1  v h) (va_cwA (owner := RX8) 2 hts (lw_U q804 q806 q807 q808 q99 q809) rfl rfl rfl (va_Nw.warmD hY (h0 _ q805)) (by decide +kernel) ⟨Nat.le_trans (Nat.le_of_ble_eq_true rfl) hRf, Nat.le_trans (Nat.le_of_ble_eq_true rfl) hRl⟩) (x_recvD (ci := 9) hK hW hm rfl) hK hY hB hW hcs rfl hls rfl hr hdg kk
  · exact x_uR (ov := some (.int v)) (D := D) (s0 := s0) (Sc := nS) (adc := ad) (Ic := fun _ => 0) (Ac := fun _ _ => 0) (Rc := nR) (Gc := nG) (Xc := wl D S ad I A R G ++ X) (base := base) (b := b) (As := [.int a0, .int a1]) (rest := rest) (C := RX11) ⟨hx, hb, hml, hown, hts⟩ (k11_pounds_met l D s0 h0 ad (wl D S ad I A R G ++ X) base b _ hm2 a0 a1  v h) (va_cwA (owner := RX8) 2 hts (lw_U q804 q806 q821 q822 q100 q823) rfl rfl rfl (va_Nw.warmD hY (h0 _ q805)) (by decide +kernel) ⟨Nat.le_trans (Nat.le_of_ble_eq_true rfl) hRf, Nat.le_trans (Nat.le_of_ble_eq_true rfl) hRl⟩) (x_recvD (ci := 10) hK hW hm rfl) hK hY hB hW hcs rfl hls rfl hr hdg kk
  · exact x_uR (ov := some (.int v)) (D := D) (s0 := s0) (Sc := nS) (adc := ad) (Ic := fun _ => 0) (Ac := fun _ _ => 0) (Rc := nR) (Gc := nG) (Xc := wl D S ad I A R G ++ X) (base := base) (b := b) (As := [.int a0, .int a1]) (rest := rest) (C := RX12) ⟨hx, hb, hml, hown, hts⟩ (k12_pounds_met l D s0 h0 ad (wl D S ad I A R G ++ X) base b a0 a1  v h) (va_cwA (owner := RX8) 2 hts (lw_U q804 q806 q813 q814 q101 q815) rfl rfl rfl (va_Nw.warmD hY (h0 _ q805)) (by decide +kernel) ⟨Nat.le_trans (Nat.le_of_ble_eq_true rfl) hRf, Nat.le_trans (Nat.le_of_ble_eq_true rfl) hRl⟩) (x_recvD (ci := 11) hK hW hm rfl) hK hY hB hW hcs rfl hls rfl hr hdg kk
  · exact x_uR (ov := some (.int v)) (D := D) (s0 := s0) (Sc := nS) (adc := ad) (Ic := fun _ => 0) (Ac := fun _ _ => 0) (Rc := nR) (Gc := nG) (Xc := wl D S ad I A R G ++ X) (base := base) (b := b) (As := [.int a0, .int a1]) (rest := rest) (C := RX13) ⟨hx, hb, hml, hown, hts⟩ (k13_pounds_met l D s0 h0 ad (wl D S ad I A R G ++ X) base b a0 a1  v h) (va_cwA (owner := RX8) 2 hts (lw_U q804 q806 q818 q819 q102 q820) rfl rfl rfl (va_Nw.warmD hY (h0 _ q805)) (by decide +kernel) ⟨Nat.le_trans (Nat.le_of_ble_eq_true rfl) hRf, Nat.le_trans (Nat.le_of_ble_eq_true rfl) hRl⟩) (x_recvD (ci := 12) hK hW hm rfl) hK hY hB hW hcs rfl hls rfl hr hdg kk
def k_grows (kd : Nat) : Option Int32 := if kd = 1 then k8_grows  else if kd = 2 then k8_grows  else if kd = 3 then k8_grows  else if kd = 4 then k12_grows  else k12_grows 
set_option maxHeartbeats 4000000 in
theorem pe_grows_X1 {p : Program} {l : Launch} {e : Env} {R0 : Room} {s : State} {m : MethodId} {args : Array Value} {below : List Frame} {meth : Method} {c : Code} {H : Heap} {locs : List Loc} {cells slots : Nat} {Q : State → Prop} {cc : ByteArray} {pc nL : Nat} {ls : Array Slot} {rest : List Value} {D : dd_} {s0 : State} {S : sp_} {ad : Nat → Nat} {I : Nat → Int32} {A : Nat → Nat → Int32} {R : Nat → Option Nat} {G : Nat → Nat → Option Nat} {X : va_W} {base : Nat} {b kd : Nat} {z : Int32} (hx : p.tables.exec = Jvm.exec) (hb : c.code = cc) (hml : c.maxLocals = nL) (hown : s.vm.findClass RX1 = some m.cls) (hts : ∀ w ∈ lw_all, w.before args s = true) (hK : Kx D s) (hY : s0.WarmedH s.vm) (h0 : ∀ w ∈ lw_tbl, va_Nw w s0) (hRf : 2 ≤ R0.frames) (hRl : 52 ≤ R0.locals) (hcs : cells ≤ R0.cells ∧ slots ≤ R0.slots) (hB : base ≤ H.size) (hW : WX D S ad I A R G X H) (hm : (b, Sum.inr (7 + kd, [.int z])) ∈ X) (h1 : 1 ≤ kd) (h5 : kd ≤ 5) {v : Int32} (h : k_grows kd  = some v) (hls : ls.size = nL) (hr : (rest.map fun v => v.category).sum ≤ 8) (hdg : decode cc pc = .ok (.invokevirtual 110, 3)) (kk : W p l e R0 s m args below meth c H locs cells slots Q (F0 m (pc + 3) ls (.int v :: rest))) : W p l e R0 s m args below meth c H locs cells slots Q (F0 m pc ls (.ref b :: rest)) := by
  have hc : kd = 1 ∨ kd = 2 ∨ kd = 3 ∨ kd = 4 ∨ kd = 5 := by omega
  have hm2 := List.mem_append_right (wl D S ad I A R G) hm
  rcases hc with rfl | rfl | rfl | rfl | rfl
  · exact x_uR (ov := some (.int v)) (D := D) (s0 := s0) (Sc := nS) (adc := ad) (Ic := fun _ => 0) (Ac := fun _ _ => 0) (Rc := nR) (Gc := nG) (Xc := wl D S ad I A R G ++ X) (base := base) (b := b) (As := []) (rest := rest) (C := RX9) ⟨hx, hb, hml, hown, hts⟩ (k8_grows_met l D s0 h0 ad (wl D S ad I A R G ++ X) base b  v h) (va_cwU (owner := RX8) 0 hts (lw_U q873 q875 q880 q874 q97 q883) rfl rfl rfl rfl (by decide +kernel) ⟨Nat.le_trans (Nat.le_of_ble_eq_true rfl) hRf, Nat.le_trans (Nat.le_of_ble_eq_true rfl) hRl⟩) (x_recvD (ci := 8) hK hW hm rfl) hK hY hB hW hcs rfl hls rfl hr hdg kk
  · exact x_uR (ov := some (.int v)) (D := D) (s0 := s0) (Sc := nS) (adc := ad) (Ic := fun _ => 0) (Ac := fun _ _ => 0) (Rc := nR) (Gc := nG) (Xc := wl D S ad I A R G ++ X) (base := base) (b := b) (As := []) (rest := rest) (C := RX10) ⟨hx, hb, hml, hown, hts⟩ (k8_grows_met l D s0 h0 ad (wl D S ad I A R G ++ X) base b  v h) (va_cwU (owner := RX8) 0 hts (lw_U q873 q875 q876 q874 q97 q883) rfl rfl rfl rfl (by decide +kernel) ⟨Nat.le_trans (Nat.le_of_ble_eq_true rfl) hRf, Nat.le_trans (Nat.le_of_ble_eq_true rfl) hRl⟩) (x_recvD (ci := 9) hK hW hm rfl) hK hY hB hW hcs rfl hls rfl hr hdg kk
  · exact x_uR (ov := some (.int v)) (D := D) (s0 := s0) (Sc := nS) (adc := ad) (Ic := fun _ => 0) (Ac := fun _ _ => 0) (Rc := nR) (Gc := nG) (Xc := wl D S ad I A R G ++ X) (base := base) (b := b) (As := []) (rest := rest) (C := RX11) ⟨hx, hb, hml, hown, hts⟩ (k8_grows_met l D s0 h0 ad (wl D S ad I A R G ++ X) base b  v h) (va_cwU (owner := RX8) 0 hts (lw_U q873 q875 q882 q874 q97 q883) rfl rfl rfl rfl (by decide +kernel) ⟨Nat.le_trans (Nat.le_of_ble_eq_true rfl) hRf, Nat.le_trans (Nat.le_of_ble_eq_true rfl) hRl⟩) (x_recvD (ci := 10) hK hW hm rfl) hK hY hB hW hcs rfl hls rfl hr hdg kk
  · exact x_uR (ov := some (.int v)) (D := D) (s0 := s0) (Sc := nS) (adc := ad) (Ic := fun _ => 0) (Ac := fun _ _ => 0) (Rc := nR) (Gc := nG) (Xc := wl D S ad I A R G ++ X) (base := base) (b := b) (As := []) (rest := rest) (C := RX12) ⟨hx, hb, hml, hown, hts⟩ (k12_grows_met l D s0 h0 ad (wl D S ad I A R G ++ X) base b  v h) (va_cwO (owner := RX8) 0 hts (lw_O q873 q875 q874 q877 q878 q101 q879) rfl rfl rfl q883 (by decide +kernel) ⟨Nat.le_trans (Nat.le_of_ble_eq_true rfl) hRf, Nat.le_trans (Nat.le_of_ble_eq_true rfl) hRl⟩) (x_recvD (ci := 11) hK hW hm rfl) hK hY hB hW hcs rfl hls rfl hr hdg kk
  · exact x_uR (ov := some (.int v)) (D := D) (s0 := s0) (Sc := nS) (adc := ad) (Ic := fun _ => 0) (Ac := fun _ _ => 0) (Rc := nR) (Gc := nG) (Xc := wl D S ad I A R G ++ X) (base := base) (b := b) (As := []) (rest := rest) (C := RX13) ⟨hx, hb, hml, hown, hts⟩ (k12_grows_met l D s0 h0 ad (wl D S ad I A R G ++ X) base b  v h) (va_cwO (owner := RX8) 0 hts (lw_O q873 q875 q874 q881 q878 q101 q879) rfl rfl rfl q883 (by decide +kernel) ⟨Nat.le_trans (Nat.le_of_ble_eq_true rfl) hRf, Nat.le_trans (Nat.le_of_ble_eq_true rfl) hRl⟩) (x_recvD (ci := 12) hK hW hm rfl) hK hY hB hW hcs rfl hls rfl hr hdg kk
def p_many (I : Nat → Int32) (A : Nat → Nat → Int32) (R : Nat → Option Nat) (pl n : Nat) (ks : Nat → Nat) : Option (Int32) :=
  ob1 (grd (R 1) pl) fun (z1 : Unit) =>
  some (nI n)
set_option maxRecDepth 100000 in
set_option maxHeartbeats 4000000 in
theorem p_many_met (l : Launch) (D : dd_) (s0 : State) (h0 : ∀ w ∈ lw_tbl, va_Nw w s0) (ad : Nat → Nat) (X : va_W) (base : Nat) (I : Nat → Int32) (A : Nat → Nat → Int32) (R : Nat → Option Nat) (pl n : Nat) (ks : Nat → Nat) (hR : RegX D X pl n ks) (r : Int32) (hf : p_many I A R pl n ks  = some r) : Met l yX1_many (ws_ yX1_many cX1_many 1 (some .int)) ({ frames := 2, cells := 0, slots := 0, locals := 52 }) (PcX D s0 pS ad I A R nG X base [.ref (ad 99)]) (QcR (some (.int r))) 0 0 (fun _ => False) := by
  refine Met.ofW (cc := cX1_many) (maxL := 1) (ret := (some .int)) (by decide) rfl ?_
  intro p e s m args below meth c s₁ B hml hv
  obtain ⟨rfl, hK, hY, hB, hW⟩ := hv
  have hx := B.exec
  have hb := B.bytes
  have hr := B.returns
  have hts := atoms_spec (ws := (ws_ yX1_many cX1_many 1 (some .int))) B.pre
  have hts : ∀ w ∈ lw_all, w.before _ s = true := fun w h => hts w (List.mem_cons_of_mem _ h)
  have hown : s.vm.findClass RX1 = some m.cls := findClass_of_methodNamed B.named
  have hlocks := B.notSynchronized
  have hRf : 2 ≤ (headSpec (ws_ yX1_many cX1_many 1 (some .int)) ({ frames := 2, cells := 0, slots := 0, locals := 52 })).room.frames := Nat.le_refl _
  have hRl : 52 ≤ (headSpec (ws_ yX1_many cX1_many 1 (some .int)) ({ frames := 2, cells := 0, slots := 0, locals := 52 })).room.locals := Nat.le_refl _
  have hcs : 0 ≤ (headSpec (ws_ yX1_many cX1_many 1 (some .int)) ({ frames := 2, cells := 0, slots := 0, locals := 52 })).room.cells ∧ 0 ≤ (headSpec (ws_ yX1_many cX1_many 1 (some .int)) ({ frames := 2, cells := 0, slots := 0, locals := 52 })).room.slots := ⟨Nat.zero_le _, Nat.zero_le _⟩
  have hl := lv_entry ([.ref (ad 99)]) (n := 1) (Nat.le_of_ble_eq_true rfl)
  rw [lg_entry_eq]
  generalize (lg_sl ([.ref (ad 99)]) ++ List.replicate (1 - (lg_sl ([.ref (ad 99)])).length) Slot.unset).toArray = ls at hl ⊢
  have hl : lv_has ls 1 [(0, .ref (ad 99))] := hl
  have hf : (ob1 (grd (R 1) pl) fun (z1 : Unit) =>
    some (nI n)) = some r := hf
  refine lv_aload_n hx hb dX1_many_0 rfl (lv_at hl 0 rfl) ?_
  obtain ⟨z1, hz1, hf⟩ := ob1_e hf
  refine x_get (v := .ref pl) hx hb hts hown hK hW pO in_X1 rfl 1 (by decide) q156 rfl (congrArg (fun z => some (va_rf z)) (grd_e hz1)) dX1_many_1 ?_
  refine pe_size_X1 hx hb hml hown hts hK hY h0 (Nat.le_trans (Nat.le_of_ble_eq_true rfl) hRf) (Nat.le_trans (Nat.le_of_ble_eq_true rfl) hRl) hcs hB hW hR hl.1 (Nat.le_of_ble_eq_true rfl) dX1_many_4 ?_
  obtain rfl := so1 hf
  exact W.iret hx hb hr (fun t ht _ => ⟨rfl, ht⟩) (fun q hq => by cases hq) dX1_many_9
theorem p_many_ds : yX1_many.cls = RX1 ∧ yX1_many.cls ≠ "java/lang/invoke/MethodHandle" ∧ yX1_many.cls ≠ "java/lang/invoke/VarHandle" ∧ (parseMethodDescriptor yX1_many.desc).map (fun d => d.parameters.length) = some 0 := by decide +kernel
def p_give (I : Nat → Int32) (A : Nat → Nat → Int32) (R : Nat → Option Nat) (pl n : Nat) (ks : Nat → Nat) (a0 : Int32) (a1 : Int32) (a2 : Int32) (a3 : Int32) (a4 : Int32) : Option ((Nat → Int32) × (Nat → Nat → Int32)) :=
  ob1 (stO (A 5) 8 (I 4) a0) fun (f1 : Nat → Int32) =>
  ob1 (stO ((va_up A 5 f1) 6) 8 (I 4) a1) fun (f2 : Nat → Int32) =>
  ob1 (stO ((va_up (va_up A 5 f1) 6 f2) 7) 8 (I 4) a2) fun (f3 : Nat → Int32) =>
  ob1 (stO ((va_up (va_up (va_up A 5 f1) 6 f2) 7 f3) 8) 8 (I 4) a3) fun (f4 : Nat → Int32) =>
  ob1 (stO ((va_up (va_up (va_up (va_up A 5 f1) 6 f2) 7 f3) 8 f4) 9) 8 (I 4) a4) fun (f5 : Nat → Int32) =>
  some (upd I 4 ((I 4) + 1), va_up (va_up (va_up (va_up (va_up A 5 f1) 6 f2) 7 f3) 8 f4) 9 f5)
set_option maxRecDepth 100000 in
set_option maxHeartbeats 4000000 in
theorem p_give_met (l : Launch) (D : dd_) (s0 : State) (h0 : ∀ w ∈ lw_tbl, va_Nw w s0) (ad : Nat → Nat) (X : va_W) (base : Nat) (hAP : AP pS ad X base) (I : Nat → Int32) (A : Nat → Nat → Int32) (R : Nat → Option Nat) (pl n : Nat) (ks : Nat → Nat) (hR : RegX D X pl n ks) (a0 : Int32) (a1 : Int32) (a2 : Int32) (a3 : Int32) (a4 : Int32) (I1 : (Nat → Int32)) (A1 : (Nat → Nat → Int32)) (hf : p_give I A R pl n ks a0 a1 a2 a3 a4 = some (I1, A1)) : Met l yX1_give (ws_ yX1_give cX1_give 6 none) ({ frames := 1, cells := 0, slots := 0, locals := 32 }) (PcX D s0 pS ad I A R nG X base [.ref (ad 99), .int a0, .int a1, .int a2, .int a3, .int a4]) (QcX D pS ad I1 A1 R nG X base (none)) 0 0 (upB base) := by
  refine Met.ofW (cc := cX1_give) (maxL := 6) (ret := none) (by decide) rfl ?_
  intro p e s m args below meth c s₁ B hml hv
  obtain ⟨rfl, hK, hY, hB0, hW⟩ := hv
  have hx := B.exec
  have hb := B.bytes
  have hr := B.returns
  have hts := atoms_spec (ws := (ws_ yX1_give cX1_give 6 none)) B.pre
  have hts : ∀ w ∈ lw_all, w.before _ s = true := fun w h => hts w (List.mem_cons_of_mem _ h)
  have hown : s.vm.findClass RX1 = some m.cls := findClass_of_methodNamed B.named
  have hlocks := B.notSynchronized
  have hRf : 1 ≤ (headSpec (ws_ yX1_give cX1_give 6 none) ({ frames := 1, cells := 0, slots := 0, locals := 32 })).room.frames := Nat.le_refl _
  have hRl : 32 ≤ (headSpec (ws_ yX1_give cX1_give 6 none) ({ frames := 1, cells := 0, slots := 0, locals := 32 })).room.locals := Nat.le_refl _
  have hcs : 0 ≤ (headSpec (ws_ yX1_give cX1_give 6 none) ({ frames := 1, cells := 0, slots := 0, locals := 32 })).room.cells ∧ 0 ≤ (headSpec (ws_ yX1_give cX1_give 6 none) ({ frames := 1, cells := 0, slots := 0, locals := 32 })).room.slots := ⟨Nat.zero_le _, Nat.zero_le _⟩
  have hS : va_S (upB base) s.heap s.heap [] := va_S.rf
  have hl := lv_entry ([.ref (ad 99), .int a0, .int a1, .int a2, .int a3, .int a4]) (n := 6) (Nat.le_of_ble_eq_true rfl)
  rw [lg_entry_eq]
  generalize (lg_sl ([.ref (ad 99), .int a0, .int a1, .int a2, .int a3, .int a4]) ++ List.replicate (6 - (lg_sl ([.ref (ad 99), .int a0, .int a1, .int a2, .int a3, .int a4])).length) Slot.unset).toArray = ls at hl ⊢
  have hl : lv_has ls 6 [(0, .ref (ad 99)), (1, .int a0), (2, .int a1), (3, .int a2), (4, .int a3), (5, .int a4)] := hl
  have hf : (ob1 (stO (A 5) 8 (I 4) a0) fun (f1 : Nat → Int32) =>
    ob1 (stO ((va_up A 5 f1) 6) 8 (I 4) a1) fun (f2 : Nat → Int32) =>
    ob1 (stO ((va_up (va_up A 5 f1) 6 f2) 7) 8 (I 4) a2) fun (f3 : Nat → Int32) =>
    ob1 (stO ((va_up (va_up (va_up A 5 f1) 6 f2) 7 f3) 8) 8 (I 4) a3) fun (f4 : Nat → Int32) =>
    ob1 (stO ((va_up (va_up (va_up (va_up A 5 f1) 6 f2) 7 f3) 8 f4) 9) 8 (I 4) a4) fun (f5 : Nat → Int32) =>
    some (upd I 4 ((I 4) + 1), va_up (va_up (va_up (va_up (va_up A 5 f1) 6 f2) 7 f3) 8 f4) 9 f5)) = some (I1, A1) := hf
  refine lv_aload_n hx hb dX1_give_0 rfl (lv_at hl 0 rfl) ?_
  refine x_get (v := .ref (ad 5)) hx hb hts hown hK hW pO in_X1 rfl 5 (by decide) q169 rfl rfl dX1_give_1 ?_
  refine lv_aload_n hx hb dX1_give_4 rfl (lv_at hl 0 rfl) ?_
  refine x_get (v := .int (I 4)) hx hb hts hown hK hW pO in_X1 rfl 4 (by decide) q166 rfl rfl dX1_give_5 ?_
  refine lv_iload_n hx hb dX1_give_8 rfl (lv_at hl 1 rfl) ?_
  obtain ⟨f1, hf1, hf⟩ := ob1_e hf
  refine x_iast hx hb hK pwf hAP hW hS pA5 hf1 dX1_give_9 (fun H locs hW hS => ?_)
  refine lv_aload_n hx hb dX1_give_10 rfl (lv_at hl 0 rfl) ?_
  refine x_get (v := .ref (ad 6)) hx hb hts hown hK hW pO in_X1 rfl 6 (by decide) q171 rfl rfl dX1_give_11 ?_
  refine lv_aload_n hx hb dX1_give_14 rfl (lv_at hl 0 rfl) ?_
  refine x_get (v := .int (I 4)) hx hb hts hown hK hW pO in_X1 rfl 4 (by decide) q166 rfl rfl dX1_give_15 ?_
  refine lv_iload_n hx hb dX1_give_18 rfl (lv_at hl 2 rfl) ?_
  obtain ⟨f2, hf2, hf⟩ := ob1_e hf
  refine x_iast hx hb hK pwf hAP hW hS pA6 hf2 dX1_give_19 (fun H locs hW hS => ?_)
  refine lv_aload_n hx hb dX1_give_20 rfl (lv_at hl 0 rfl) ?_
  refine x_get (v := .ref (ad 7)) hx hb hts hown hK hW pO in_X1 rfl 7 (by decide) q173 rfl rfl dX1_give_21 ?_
  refine lv_aload_n hx hb dX1_give_24 rfl (lv_at hl 0 rfl) ?_
  refine x_get (v := .int (I 4)) hx hb hts hown hK hW pO in_X1 rfl 4 (by decide) q166 rfl rfl dX1_give_25 ?_
  refine lv_iload_n hx hb dX1_give_28 rfl (lv_at hl 3 rfl) ?_
  obtain ⟨f3, hf3, hf⟩ := ob1_e hf
  refine x_iast hx hb hK pwf hAP hW hS pA7 hf3 dX1_give_29 (fun H locs hW hS => ?_)
  refine lv_aload_n hx hb dX1_give_30 rfl (lv_at hl 0 rfl) ?_
  refine x_get (v := .ref (ad 8)) hx hb hts hown hK hW pO in_X1 rfl 8 (by decide) q175 rfl rfl dX1_give_31 ?_
  refine lv_aload_n hx hb dX1_give_34 rfl (lv_at hl 0 rfl) ?_
  refine x_get (v := .int (I 4)) hx hb hts hown hK hW pO in_X1 rfl 4 (by decide) q166 rfl rfl dX1_give_35 ?_
  refine lv_iload hx hb dX1_give_38 (lv_at hl 4 rfl) ?_
  obtain ⟨f4, hf4, hf⟩ := ob1_e hf
  refine x_iast hx hb hK pwf hAP hW hS pA8 hf4 dX1_give_40 (fun H locs hW hS => ?_)
  refine lv_aload_n hx hb dX1_give_41 rfl (lv_at hl 0 rfl) ?_
  refine x_get (v := .ref (ad 9)) hx hb hts hown hK hW pO in_X1 rfl 9 (by decide) q177 rfl rfl dX1_give_42 ?_
  refine lv_aload_n hx hb dX1_give_45 rfl (lv_at hl 0 rfl) ?_
  refine x_get (v := .int (I 4)) hx hb hts hown hK hW pO in_X1 rfl 4 (by decide) q166 rfl rfl dX1_give_46 ?_
  refine lv_iload hx hb dX1_give_49 (lv_at hl 5 rfl) ?_
  obtain ⟨f5, hf5, hf⟩ := ob1_e hf
  refine x_iast hx hb hK pwf hAP hW hS pA9 hf5 dX1_give_51 (fun H locs hW hS => ?_)
  refine lv_aload_n hx hb dX1_give_52 rfl (lv_at hl 0 rfl) ?_
  refine lv_dup hx hb dX1_give_53 rfl ?_
  refine x_get (v := .int (I 4)) hx hb hts hown hK hW pO in_X1 rfl 4 (by decide) q166 rfl rfl dX1_give_54 ?_
  refine lv_iconst (v := 1) hx hb dX1_give_57 (by decide) ?_
  refine lv_iadd hx hb dX1_give_58 ?_
  refine x_putI hx hb hts hown hK pwf hAP hW hS pO in_X1 tyX1 tyX1_ok nmX1 rfl 4 4 (by decide) rfl q166 rfl rfl (by decide +kernel) dX1_give_59 (fun H locs hW hS => ?_)
  obtain ⟨rfl, rfl⟩ := so2 hf
  exact W.vret hx hb hr (fun t ht _ => ⟨rfl, by rw [ht]; exact hW, hS.F ht⟩) hS.2.2 dX1_give_62
theorem p_give_ds : yX1_give.cls = RX1 ∧ yX1_give.cls ≠ "java/lang/invoke/MethodHandle" ∧ yX1_give.cls ≠ "java/lang/invoke/VarHandle" ∧ (parseMethodDescriptor yX1_give.desc).map (fun d => d.parameters.length) = some 5 := by decide +kernel
def p_pounds (I : Nat → Int32) (A : Nat → Nat → Int32) (R : Nat → Option Nat) (pl n : Nat) (ks : Nat → Nat) (a0 : Int32) : Option (Int32) :=
  ob1 (x_has (I 10) a0) fun (v1 : Int32) =>
  ob1 (if v1 = 0 then (ob1 (grd (R 1) pl) fun (z4 : Unit) =>
      ob1 (ldO (A 5) 8 a0) fun (v5 : Int32) =>
      ob1 (pgO n v5) fun (j6 : Nat) =>
      ob1 (ldO (A 7) 8 a0) fun (v7 : Int32) =>
      ob1 (ldO (A 9) 8 a0) fun (v8 : Int32) =>
      ob1 (ldO (A 6) 8 a0) fun (v9 : Int32) =>
      ob1 (ldO (A 3) 5 v9) fun (v10 : Int32) =>
      ob1 (if v8 = v10 then ((some 1 : Option (Int32))) else ((some 0 : Option (Int32)))) fun (v11 : Int32) =>
      ob1 (k_pounds (ks j6) v7 v11) fun (v13 : Int32) =>
      (some v13 : Option (Int32))) else ((some 0 : Option (Int32)))) fun (v2 : Int32) =>
  some v2
set_option maxRecDepth 100000 in
set_option maxHeartbeats 4000000 in
theorem p_pounds_met (l : Launch) (D : dd_) (s0 : State) (h0 : ∀ w ∈ lw_tbl, va_Nw w s0) (ad : Nat → Nat) (X : va_W) (base : Nat) (I : Nat → Int32) (A : Nat → Nat → Int32) (R : Nat → Option Nat) (pl n : Nat) (ks : Nat → Nat) (hR : RegX D X pl n ks) (a0 : Int32) (r : Int32) (hf : p_pounds I A R pl n ks a0 = some r) : Met l yX1_pounds (ws_ yX1_pounds cX1_pounds 2 (some .int)) ({ frames := 4, cells := 0, slots := 0, locals := 96 }) (PcX D s0 pS ad I A R nG X base [.ref (ad 99), .int a0]) (QcR (some (.int r))) 0 0 (fun _ => False) := by
  refine Met.ofW (cc := cX1_pounds) (maxL := 2) (ret := (some .int)) (by decide) rfl ?_
  intro p e s m args below meth c s₁ B hml hv
  obtain ⟨rfl, hK, hY, hB, hW⟩ := hv
  have hx := B.exec
  have hb := B.bytes
  have hr := B.returns
  have hts := atoms_spec (ws := (ws_ yX1_pounds cX1_pounds 2 (some .int))) B.pre
  have hts : ∀ w ∈ lw_all, w.before _ s = true := fun w h => hts w (List.mem_cons_of_mem _ h)
  have hown : s.vm.findClass RX1 = some m.cls := findClass_of_methodNamed B.named
  have hlocks := B.notSynchronized
  have hRf : 4 ≤ (headSpec (ws_ yX1_pounds cX1_pounds 2 (some .int)) ({ frames := 4, cells := 0, slots := 0, locals := 96 })).room.frames := Nat.le_refl _
  have hRl : 96 ≤ (headSpec (ws_ yX1_pounds cX1_pounds 2 (some .int)) ({ frames := 4, cells := 0, slots := 0, locals := 96 })).room.locals := Nat.le_refl _
  have hcs : 0 ≤ (headSpec (ws_ yX1_pounds cX1_pounds 2 (some .int)) ({ frames := 4, cells := 0, slots := 0, locals := 96 })).room.cells ∧ 0 ≤ (headSpec (ws_ yX1_pounds cX1_pounds 2 (some .int)) ({ frames := 4, cells := 0, slots := 0, locals := 96 })).room.slots := ⟨Nat.zero_le _, Nat.zero_le _⟩
  have hl := lv_entry ([.ref (ad 99), .int a0]) (n := 2) (Nat.le_of_ble_eq_true rfl)
  rw [lg_entry_eq]
  generalize (lg_sl ([.ref (ad 99), .int a0]) ++ List.replicate (2 - (lg_sl ([.ref (ad 99), .int a0])).length) Slot.unset).toArray = ls at hl ⊢
  have hl : lv_has ls 2 [(0, .ref (ad 99)), (1, .int a0)] := hl
  have hf : (ob1 (x_has (I 10) a0) fun (v1 : Int32) =>
    ob1 (if v1 = 0 then (ob1 (grd (R 1) pl) fun (z4 : Unit) =>
        ob1 (ldO (A 5) 8 a0) fun (v5 : Int32) =>
        ob1 (pgO n v5) fun (j6 : Nat) =>
        ob1 (ldO (A 7) 8 a0) fun (v7 : Int32) =>
        ob1 (ldO (A 9) 8 a0) fun (v8 : Int32) =>
        ob1 (ldO (A 6) 8 a0) fun (v9 : Int32) =>
        ob1 (ldO (A 3) 5 v9) fun (v10 : Int32) =>
        ob1 (if v8 = v10 then ((some 1 : Option (Int32))) else ((some 0 : Option (Int32)))) fun (v11 : Int32) =>
        ob1 (k_pounds (ks j6) v7 v11) fun (v13 : Int32) =>
        (some v13 : Option (Int32))) else ((some 0 : Option (Int32)))) fun (v2 : Int32) =>
    some v2) = some r := hf
  refine lv_aload_n hx hb dX1_pounds_0 rfl (lv_at hl 0 rfl) ?_
  refine x_get (v := .int (I 10)) hx hb hts hown hK hW pO in_X1 rfl 10 (by decide) q179 rfl rfl dX1_pounds_1 ?_
  refine lv_iload_n hx hb dX1_pounds_4 rfl (lv_at hl 1 rfl) ?_
  obtain ⟨v1, h1, hf⟩ := ob1_e hf
  refine x_snR (ov := some (.int v1)) (D := D) (s0 := s0) (Sc := nS) (adc := ad) (Ic := (fun _ => 0)) (Ac := (fun _ _ => 0)) (Rc := nR) (Gc := nG) (Xc := []) (base := base) (As := [.int (I 10), .int a0]) (rest := []) ⟨hx, hb, hml, hown, hts⟩ (x_has_met l D s0 h0 ad [] base (I 10) a0 v1 h1) ⟨va_cnB 2 hts (lw_meth q785) rfl rfl rfl (va_Nw.warmM hY (h0 _ q783)) (hts _ q76) x_has_ds.2 ⟨Nat.le_trans (Nat.le_of_ble_eq_true rfl) hRf, Nat.le_trans (Nat.le_of_ble_eq_true rfl) hRl⟩, hts _ q784, trivial⟩ hK hY hB WX_nil hcs rfl hl.1 rfl (Nat.le_of_ble_eq_true rfl) dX1_pounds_5 ?_
  obtain ⟨v2, hm2, hf⟩ := ob1_e hf
  refine w_cutL (nL := 2) (L := []) (pcj := 67) (st := [.int v2]) (fun ls hl => ?_) (fun K2 => ?_)
  · obtain rfl := so1 hf
    exact W.iret hx hb hr (fun t ht _ => ⟨rfl, ht⟩) (fun q hq => by cases hq) dX1_pounds_67
  · refine lv_if_eq (tgt := 15) hx hb dX1_pounds_8 (by decide) (fun c3 => ?_) (fun c3 => ?_)
    · rw [if_pos c3] at hm2
      refine lv_aload_n hx hb dX1_pounds_15 rfl (lv_at hl 0 rfl) ?_
      obtain ⟨z4, hz4, hm2⟩ := ob1_e hm2
      refine x_get (v := .ref pl) hx hb hts hown hK hW pO in_X1 rfl 1 (by decide) q156 rfl (congrArg (fun z => some (va_rf z)) (grd_e hz4)) dX1_pounds_16 ?_
      refine lv_aload_n hx hb dX1_pounds_19 rfl (lv_at hl 0 rfl) ?_
      refine x_get (v := .ref (ad 5)) hx hb hts hown hK hW pO in_X1 rfl 5 (by decide) q169 rfl rfl dX1_pounds_20 ?_
      refine lv_iload_n hx hb dX1_pounds_23 rfl (lv_at hl 1 rfl) ?_
      obtain ⟨v5, hv5, hm2⟩ := ob1_e hm2
      refine x_iald hx hb hK hW pA5 hv5 dX1_pounds_24 ?_
      obtain ⟨j6, hj6, hm2⟩ := ob1_e hm2
      refine pe_get_X1 hx hb hml hown hts hK hY h0 (Nat.le_trans (Nat.le_of_ble_eq_true rfl) hRf) (Nat.le_trans (Nat.le_of_ble_eq_true rfl) hRl) hcs hB hW hR hj6 hl.1 (Nat.le_of_ble_eq_true rfl) dX1_pounds_25 (fun paj6 hmpaj6 h1paj6 h5paj6 => ?_)
      refine pe_cast_X1 hx hb hown hts hK hY h0 hW hmpaj6 h1paj6 h5paj6 dX1_pounds_30 ?_
      refine lv_aload_n hx hb dX1_pounds_33 rfl (lv_at hl 0 rfl) ?_
      refine x_get (v := .ref (ad 7)) hx hb hts hown hK hW pO in_X1 rfl 7 (by decide) q173 rfl rfl dX1_pounds_34 ?_
      refine lv_iload_n hx hb dX1_pounds_37 rfl (lv_at hl 1 rfl) ?_
      obtain ⟨v7, hv7, hm2⟩ := ob1_e hm2
      refine x_iald hx hb hK hW pA7 hv7 dX1_pounds_38 ?_
      refine lv_aload_n hx hb dX1_pounds_39 rfl (lv_at hl 0 rfl) ?_
      refine x_get (v := .ref (ad 9)) hx hb hts hown hK hW pO in_X1 rfl 9 (by decide) q177 rfl rfl dX1_pounds_40 ?_
      refine lv_iload_n hx hb dX1_pounds_43 rfl (lv_at hl 1 rfl) ?_
      obtain ⟨v8, hv8, hm2⟩ := ob1_e hm2
      refine x_iald hx hb hK hW pA9 hv8 dX1_pounds_44 ?_
      refine lv_aload_n hx hb dX1_pounds_45 rfl (lv_at hl 0 rfl) ?_
      refine x_get (v := .ref (ad 3)) hx hb hts hown hK hW pO in_X1 rfl 3 (by decide) q163 rfl rfl dX1_pounds_46 ?_
      refine lv_aload_n hx hb dX1_pounds_49 rfl (lv_at hl 0 rfl) ?_
      refine x_get (v := .ref (ad 6)) hx hb hts hown hK hW pO in_X1 rfl 6 (by decide) q171 rfl rfl dX1_pounds_50 ?_
      refine lv_iload_n hx hb dX1_pounds_53 rfl (lv_at hl 1 rfl) ?_
      obtain ⟨v9, hv9, hm2⟩ := ob1_e hm2
      refine x_iald hx hb hK hW pA6 hv9 dX1_pounds_54 ?_
      obtain ⟨v10, hv10, hm2⟩ := ob1_e hm2
      refine x_iald hx hb hK hW pA3 hv10 dX1_pounds_55 ?_
      obtain ⟨v11, hm11, hm2⟩ := ob1_e hm2
      refine w_cutL (nL := 2) (L := []) (pcj := 64) (st := [.int v11, .int v7, .ref paj6]) (fun ls hl => ?_) (fun K11 => ?_)
      · obtain ⟨v13, hv13, hm2⟩ := ob1_e hm2
        refine pe_pounds_X1 hx hb hml hown hts hK hY h0 (Nat.le_trans (Nat.le_of_ble_eq_true rfl) hRf) (Nat.le_trans (Nat.le_of_ble_eq_true rfl) hRl) hcs hB hW hmpaj6 h1paj6 h5paj6 hv13 hl.1 (Nat.le_of_ble_eq_true rfl) dX1_pounds_64 ?_
        obtain rfl := so1 hm2
        exact K2 ls (lv_sub hl [] rfl)
      · refine lv_icmp_ne (tgt := 63) hx hb dX1_pounds_56 (by decide) (fun c12 => ?_) (fun c12 => ?_)
        · rw [if_neg c12] at hm11
          refine lv_iconst (v := 0) hx hb dX1_pounds_63 (by decide) ?_
          obtain rfl := so1 hm11
          exact K11 ls (lv_sub hl [] rfl)
        · rw [if_pos c12] at hm11
          refine lv_iconst (v := 1) hx hb dX1_pounds_59 (by decide) ?_
          refine lv_goto (tgt := 64) hx hb dX1_pounds_60 (by decide) ?_
          obtain rfl := so1 hm11
          exact K11 ls (lv_sub hl [] rfl)
    · rw [if_neg c3] at hm2
      refine lv_iconst (v := 0) hx hb dX1_pounds_11 (by decide) ?_
      refine lv_goto (tgt := 67) hx hb dX1_pounds_12 (by decide) ?_
      obtain rfl := so1 hm2
      exact K2 ls (lv_sub hl [] rfl)
theorem p_pounds_ds : yX1_pounds.cls = RX1 ∧ yX1_pounds.cls ≠ "java/lang/invoke/MethodHandle" ∧ yX1_pounds.cls ≠ "java/lang/invoke/VarHandle" ∧ (parseMethodDescriptor yX1_pounds.desc).map (fun d => d.parameters.length) = some 1 := by decide +kernel
def p_loadBy_L5 (I : Nat → Int32) (A : Nat → Nat → Int32) (R : Nat → Option Nat) (pl n : Nat) (ks : Nat → Nat) (u1 : Int32) (u2 : Int32) : Nat → Int32 → Int32 → Option (Int32 × Int32)
  | 0, _, _ => none
  | k + 1, x3, x4 =>
    if (I 4) ≤ x4 then (some (x3, x4)) else (ob1 (ldO (A 5) 8 x4) fun (v2 : Int32) =>
      ob1 (if v2 = u1 then (ob1 (p_pounds I A R pl n ks x4) fun (v5 : Int32) =>
          ob1 (divO (v5 * u2) 10) fun (v6 : Int32) =>
          (some v6 : Option (Int32))) else ((some 0 : Option (Int32)))) fun (v3 : Int32) =>
      p_loadBy_L5 I A R pl n ks u1 u2 k (x3 + v3) (x4 + 1))
set_option maxRecDepth 100000 in
set_option maxHeartbeats 4000000 in
theorem p_loadBy_L5_w {p : Program} {l : Launch} {e : Env} {R0 : Room} {s : State} {m : MethodId} {args : Array Value} {below : List Frame} {meth : Method} {c : Code} {cells slots : Nat} {Q : State → Prop} {D : dd_} {s0 : State} {ad : Nat → Nat} {X : va_W} {base : Nat} (hx : p.tables.exec = Jvm.exec) (hb : c.code = cX1_loadBy) (hml : c.maxLocals = 5) (hown : s.vm.findClass RX1 = some m.cls) (hts : ∀ w ∈ lw_all, w.before args s = true) (hK : Kx D s) (hY : s0.WarmedH s.vm) (h0 : ∀ w ∈ lw_tbl, va_Nw w s0) (hRf : 5 ≤ R0.frames) (hRl : 117 ≤ R0.locals) (hcs : cells ≤ R0.cells ∧ slots ≤ R0.slots) {H : Heap} {locs : List Loc} (hB : base ≤ H.size) (I : Nat → Int32) (A : Nat → Nat → Int32) (R : Nat → Option Nat) (pl n : Nat) (ks : Nat → Nat) (u1 : Int32) (u2 : Int32) (hR : RegX D X pl n ks) (hW : WX D pS ad I A R nG X H) (y3 : Int32) (y4 : Int32) (KX : ∀ (ls : Array Slot), lv_has ls 5 [(3, .int y3)] → W p l e R0 s m args below meth c H locs cells slots Q (F0 m 49 ls [])) : ∀ (k : Nat) (x3 : Int32) (x4 : Int32) (ls : Array Slot), p_loadBy_L5 I A R pl n ks u1 u2 k x3 x4 = some (y3, y4) → lv_has ls 5 [(0, .ref (ad 99)), (1, .int u1), (2, .int u2), (3, .int x3), (4, .int x4)] → W p l e R0 s m args below meth c H locs cells slots Q (F0 m 5 ls []) := by
  intro k
  induction k with
  | zero =>
    intro x3 x4 ls hf
    exact nomatch (show (none : Option (Int32 × Int32)) = some (y3, y4) from hf)
  | succ k ih =>
    intro x3 x4 ls hf hl
    have hf : (if (I 4) ≤ x4 then (some (x3, x4)) else (ob1 (ldO (A 5) 8 x4) fun (v2 : Int32) =>
          ob1 (if v2 = u1 then (ob1 (p_pounds I A R pl n ks x4) fun (v5 : Int32) =>
              ob1 (divO (v5 * u2) 10) fun (v6 : Int32) =>
              (some v6 : Option (Int32))) else ((some 0 : Option (Int32)))) fun (v3 : Int32) =>
          p_loadBy_L5 I A R pl n ks u1 u2 k (x3 + v3) (x4 + 1))) = some (y3, y4) := hf
    refine lv_iload hx hb dX1_loadBy_5 (lv_at hl 4 rfl) ?_
    refine lv_aload_n hx hb dX1_loadBy_7 rfl (lv_at hl 0 rfl) ?_
    refine x_get (v := .int (I 4)) hx hb hts hown hK hW pO in_X1 rfl 4 (by decide) q166 rfl rfl dX1_loadBy_8 ?_
    refine lv_icmp_ge (tgt := 49) hx hb dX1_loadBy_11 (by decide) (fun c1 => ?_) (fun c1 => ?_)
    · rw [if_pos c1] at hf
      obtain ⟨rfl, rfl⟩ := so2 hf
      exact KX ls (lv_sub hl [3] rfl)
    · rw [if_neg c1] at hf
      refine lv_iload_n hx hb dX1_loadBy_14 rfl (lv_at hl 3 rfl) ?_
      refine lv_aload_n hx hb dX1_loadBy_15 rfl (lv_at hl 0 rfl) ?_
      refine x_get (v := .ref (ad 5)) hx hb hts hown hK hW pO in_X1 rfl 5 (by decide) q169 rfl rfl dX1_loadBy_16 ?_
      refine lv_iload hx hb dX1_loadBy_19 (lv_at hl 4 rfl) ?_
      obtain ⟨v2, hv2, hf⟩ := ob1_e hf
      refine x_iald hx hb hK hW pA5 hv2 dX1_loadBy_21 ?_
      refine lv_iload_n hx hb dX1_loadBy_22 rfl (lv_at hl 1 rfl) ?_
      obtain ⟨v3, hm3, hf⟩ := ob1_e hf
      refine w_cutL (nL := 5) (L := [(0, .ref (ad 99)), (1, .int u1), (2, .int u2), (4, .int x4)]) (pcj := 41) (st := [.int v3, .int x3]) (fun ls hl => ?_) (fun K3 => ?_)
      · refine lv_iadd hx hb dX1_loadBy_41 ?_
        refine lv_istore_n (lv' := [(3, .int (x3 + v3)), (0, .ref (ad 99)), (1, .int u1), (2, .int u2), (4, .int x4)]) hx hb dX1_loadBy_42 rfl hl (by decide) rfl (fun ls hl => ?_)
        refine lv_iinc (v := x4 + 1) (lv' := [(4, .int (x4 + 1)), (3, .int (x3 + v3)), (0, .ref (ad 99)), (1, .int u1), (2, .int u2)]) hx hb dX1_loadBy_43 hl (k := 4) rfl (by rfl) (by decide) rfl (fun ls hl => ?_)
        refine lv_goto (tgt := 5) hx hb dX1_loadBy_46 (by decide) ?_
        exact ih (x3 + v3) (x4 + 1) ls hf (lv_sub hl [2, 3, 4, 1, 0] rfl)
      · refine lv_icmp_ne (tgt := 40) hx hb dX1_loadBy_23 (by decide) (fun c4 => ?_) (fun c4 => ?_)
        · rw [if_neg c4] at hm3
          refine lv_iconst (v := 0) hx hb dX1_loadBy_40 (by decide) ?_
          obtain rfl := so1 hm3
          exact K3 ls (lv_sub hl [0, 1, 2, 4] rfl)
        · rw [if_pos c4] at hm3
          refine lv_aload_n hx hb dX1_loadBy_26 rfl (lv_at hl 0 rfl) ?_
          refine lv_iload hx hb dX1_loadBy_27 (lv_at hl 4 rfl) ?_
          obtain ⟨v5, h5, hm3⟩ := ob1_e hm3
          refine x_vR (ov := some (.int v5)) (D := D) (s0 := s0) (Sc := pS) (adc := ad) (Ic := I) (Ac := A) (Rc := R) (Gc := nG) (Xc := X) (base := base) (As := [.int x4]) (rest := [.int x3]) (b := ad 99) (C := RX1) ⟨hx, hb, hml, hown, hts⟩ (p_pounds_met l D s0 h0 ad X base I A R pl n ks hR x4 v5 h5) (g_cwV 1 hts (lw_V q779 q780 q781 q77 q782) rfl rfl p_pounds_ds ⟨Nat.le_trans (Nat.le_of_ble_eq_true rfl) hRf, Nat.le_trans (Nat.le_of_ble_eq_true rfl) hRl⟩) (x_recv hK hW pO rfl) hK hY hB hW hcs rfl hl.1 rfl (Nat.le_of_ble_eq_true rfl) dX1_loadBy_29 ?_
          refine lv_iload_n hx hb dX1_loadBy_32 rfl (lv_at hl 2 rfl) ?_
          refine lv_imul hx hb dX1_loadBy_33 ?_
          refine lv_bipush (v := 10) hx hb dX1_loadBy_34 (by decide) ?_
          obtain ⟨v6, hv6, hm3⟩ := ob1_e hm3
          refine g_idiv hx hb hv6 dX1_loadBy_36 ?_
          refine lv_goto (tgt := 41) hx hb dX1_loadBy_37 (by decide) ?_
          obtain rfl := so1 hm3
          exact K3 ls (lv_sub hl [0, 1, 2, 4] rfl)
def p_loadBy (I : Nat → Int32) (A : Nat → Nat → Int32) (R : Nat → Option Nat) (pl n : Nat) (ks : Nat → Nat) (a0 : Int32) (a1 : Int32) : Option (Int32) :=
  ob2 (p_loadBy_L5 I A R pl n ks a0 a1 NF 0 0) fun (v1 : Int32) (v2 : Int32) =>
  some v1
set_option maxRecDepth 100000 in
set_option maxHeartbeats 4000000 in
theorem p_loadBy_met (l : Launch) (D : dd_) (s0 : State) (h0 : ∀ w ∈ lw_tbl, va_Nw w s0) (ad : Nat → Nat) (X : va_W) (base : Nat) (I : Nat → Int32) (A : Nat → Nat → Int32) (R : Nat → Option Nat) (pl n : Nat) (ks : Nat → Nat) (hR : RegX D X pl n ks) (a0 : Int32) (a1 : Int32) (r : Int32) (hf : p_loadBy I A R pl n ks a0 a1 = some r) : Met l yX1_loadBy (ws_ yX1_loadBy cX1_loadBy 5 (some .int)) ({ frames := 5, cells := 0, slots := 0, locals := 117 }) (PcX D s0 pS ad I A R nG X base [.ref (ad 99), .int a0, .int a1]) (QcR (some (.int r))) 0 0 (fun _ => False) := by
  refine Met.ofW (cc := cX1_loadBy) (maxL := 5) (ret := (some .int)) (by decide) rfl ?_
  intro p e s m args below meth c s₁ B hml hv
  obtain ⟨rfl, hK, hY, hB, hW⟩ := hv
  have hx := B.exec
  have hb := B.bytes
  have hr := B.returns
  have hts := atoms_spec (ws := (ws_ yX1_loadBy cX1_loadBy 5 (some .int))) B.pre
  have hts : ∀ w ∈ lw_all, w.before _ s = true := fun w h => hts w (List.mem_cons_of_mem _ h)
  have hown : s.vm.findClass RX1 = some m.cls := findClass_of_methodNamed B.named
  have hlocks := B.notSynchronized
  have hRf : 5 ≤ (headSpec (ws_ yX1_loadBy cX1_loadBy 5 (some .int)) ({ frames := 5, cells := 0, slots := 0, locals := 117 })).room.frames := Nat.le_refl _
  have hRl : 117 ≤ (headSpec (ws_ yX1_loadBy cX1_loadBy 5 (some .int)) ({ frames := 5, cells := 0, slots := 0, locals := 117 })).room.locals := Nat.le_refl _
  have hcs : 0 ≤ (headSpec (ws_ yX1_loadBy cX1_loadBy 5 (some .int)) ({ frames := 5, cells := 0, slots := 0, locals := 117 })).room.cells ∧ 0 ≤ (headSpec (ws_ yX1_loadBy cX1_loadBy 5 (some .int)) ({ frames := 5, cells := 0, slots := 0, locals := 117 })).room.slots := ⟨Nat.zero_le _, Nat.zero_le _⟩
  have hl := lv_entry ([.ref (ad 99), .int a0, .int a1]) (n := 5) (Nat.le_of_ble_eq_true rfl)
  rw [lg_entry_eq]
  generalize (lg_sl ([.ref (ad 99), .int a0, .int a1]) ++ List.replicate (5 - (lg_sl ([.ref (ad 99), .int a0, .int a1])).length) Slot.unset).toArray = ls at hl ⊢
  have hl : lv_has ls 5 [(0, .ref (ad 99)), (1, .int a0), (2, .int a1)] := hl
  have hf : (ob2 (p_loadBy_L5 I A R pl n ks a0 a1 NF 0 0) fun (v1 : Int32) (v2 : Int32) =>
    some v1) = some r := hf
  refine lv_iconst (v := 0) hx hb dX1_loadBy_0 (by decide) ?_
  refine lv_istore_n (lv' := [(3, .int 0), (0, .ref (ad 99)), (1, .int a0), (2, .int a1)]) hx hb dX1_loadBy_1 rfl hl (by decide) rfl (fun ls hl => ?_)
  refine lv_iconst (v := 0) hx hb dX1_loadBy_2 (by decide) ?_
  refine lv_istore (lv' := [(4, .int 0), (3, .int 0), (0, .ref (ad 99)), (1, .int a0), (2, .int a1)]) hx hb dX1_loadBy_3 hl (by decide) rfl (fun ls hl => ?_)
  obtain ⟨v1, v2, hq2, hf⟩ := ob2_e hf
  refine p_loadBy_L5_w hx hb hml hown hts hK hY h0 hRf hRl hcs hB I A R pl n ks a0 a1 hR hW v1 v2 (fun ls hl => ?_) NF 0 0 ls hq2 (lv_sub hl [2, 3, 4, 1, 0] rfl)
  refine lv_iload_n hx hb dX1_loadBy_49 rfl (lv_at hl 0 rfl) ?_
  obtain rfl := so1 hf
  exact W.iret hx hb hr (fun t ht _ => ⟨rfl, ht⟩) (fun q hq => by cases hq) dX1_loadBy_50
theorem p_loadBy_ds : yX1_loadBy.cls = RX1 ∧ yX1_loadBy.cls ≠ "java/lang/invoke/MethodHandle" ∧ yX1_loadBy.cls ≠ "java/lang/invoke/VarHandle" ∧ (parseMethodDescriptor yX1_loadBy.desc).map (fun d => d.parameters.length) = some 2 := by decide +kernel
def p_load (I : Nat → Int32) (A : Nat → Nat → Int32) (R : Nat → Option Nat) (pl n : Nat) (ks : Nat → Nat) (a0 : Int32) : Option (Int32) :=
  ob1 (p_loadBy I A R pl n ks a0 10) fun (v1 : Int32) =>
  some v1
set_option maxRecDepth 100000 in
set_option maxHeartbeats 4000000 in
theorem p_load_met (l : Launch) (D : dd_) (s0 : State) (h0 : ∀ w ∈ lw_tbl, va_Nw w s0) (ad : Nat → Nat) (X : va_W) (base : Nat) (I : Nat → Int32) (A : Nat → Nat → Int32) (R : Nat → Option Nat) (pl n : Nat) (ks : Nat → Nat) (hR : RegX D X pl n ks) (a0 : Int32) (r : Int32) (hf : p_load I A R pl n ks a0 = some r) : Met l yX1_load (ws_ yX1_load cX1_load 2 (some .int)) ({ frames := 6, cells := 0, slots := 0, locals := 141 }) (PcX D s0 pS ad I A R nG X base [.ref (ad 99), .int a0]) (QcR (some (.int r))) 0 0 (fun _ => False) := by
  refine Met.ofW (cc := cX1_load) (maxL := 2) (ret := (some .int)) (by decide) rfl ?_
  intro p e s m args below meth c s₁ B hml hv
  obtain ⟨rfl, hK, hY, hB, hW⟩ := hv
  have hx := B.exec
  have hb := B.bytes
  have hr := B.returns
  have hts := atoms_spec (ws := (ws_ yX1_load cX1_load 2 (some .int))) B.pre
  have hts : ∀ w ∈ lw_all, w.before _ s = true := fun w h => hts w (List.mem_cons_of_mem _ h)
  have hown : s.vm.findClass RX1 = some m.cls := findClass_of_methodNamed B.named
  have hlocks := B.notSynchronized
  have hRf : 6 ≤ (headSpec (ws_ yX1_load cX1_load 2 (some .int)) ({ frames := 6, cells := 0, slots := 0, locals := 141 })).room.frames := Nat.le_refl _
  have hRl : 141 ≤ (headSpec (ws_ yX1_load cX1_load 2 (some .int)) ({ frames := 6, cells := 0, slots := 0, locals := 141 })).room.locals := Nat.le_refl _
  have hcs : 0 ≤ (headSpec (ws_ yX1_load cX1_load 2 (some .int)) ({ frames := 6, cells := 0, slots := 0, locals := 141 })).room.cells ∧ 0 ≤ (headSpec (ws_ yX1_load cX1_load 2 (some .int)) ({ frames := 6, cells := 0, slots := 0, locals := 141 })).room.slots := ⟨Nat.zero_le _, Nat.zero_le _⟩
  have hl := lv_entry ([.ref (ad 99), .int a0]) (n := 2) (Nat.le_of_ble_eq_true rfl)
  rw [lg_entry_eq]
  generalize (lg_sl ([.ref (ad 99), .int a0]) ++ List.replicate (2 - (lg_sl ([.ref (ad 99), .int a0])).length) Slot.unset).toArray = ls at hl ⊢
  have hl : lv_has ls 2 [(0, .ref (ad 99)), (1, .int a0)] := hl
  have hf : (ob1 (p_loadBy I A R pl n ks a0 10) fun (v1 : Int32) =>
    some v1) = some r := hf
  refine lv_aload_n hx hb dX1_load_0 rfl (lv_at hl 0 rfl) ?_
  refine lv_iload_n hx hb dX1_load_1 rfl (lv_at hl 1 rfl) ?_
  refine lv_bipush (v := 10) hx hb dX1_load_2 (by decide) ?_
  obtain ⟨v1, h1, hf⟩ := ob1_e hf
  refine x_vR (ov := some (.int v1)) (D := D) (s0 := s0) (Sc := pS) (adc := ad) (Ic := I) (Ac := A) (Rc := R) (Gc := nG) (Xc := X) (base := base) (As := [.int a0, .int 10]) (rest := []) (b := ad 99) (C := RX1) ⟨hx, hb, hml, hown, hts⟩ (p_loadBy_met l D s0 h0 ad X base I A R pl n ks hR a0 10 v1 h1) (g_cwV 2 hts (lw_V q775 q776 q777 q77 q778) rfl rfl p_loadBy_ds ⟨Nat.le_trans (Nat.le_of_ble_eq_true rfl) hRf, Nat.le_trans (Nat.le_of_ble_eq_true rfl) hRl⟩) (x_recv hK hW pO rfl) hK hY hB hW hcs rfl hl.1 rfl (Nat.le_of_ble_eq_true rfl) dX1_load_4 ?_
  obtain rfl := so1 hf
  exact W.iret hx hb hr (fun t ht _ => ⟨rfl, ht⟩) (fun q hq => by cases hq) dX1_load_7
theorem p_load_ds : yX1_load.cls = RX1 ∧ yX1_load.cls ≠ "java/lang/invoke/MethodHandle" ∧ yX1_load.cls ≠ "java/lang/invoke/VarHandle" ∧ (parseMethodDescriptor yX1_load.desc).map (fun d => d.parameters.length) = some 1 := by decide +kernel
def p_crushedBy_L4 (I : Nat → Int32) (A : Nat → Nat → Int32) (R : Nat → Option Nat) (pl n : Nat) (ks : Nat → Nat) (u1 : Int32) : Nat → Int32 → Int32 → Option (Int32 × Int32)
  | 0, _, _ => none
  | k + 1, x2, x3 =>
    ob1 (p_many I A R pl n ks) fun (v1 : Int32) =>
    if v1 ≤ x3 then (some (x2, x3)) else (ob1 (p_loadBy I A R pl n ks x3 u1) fun (v3 : Int32) =>
      ob1 (ldO (A 2) 5 x3) fun (v4 : Int32) =>
      ob1 (if v3 ≤ v4 then ((some 0 : Option (Int32))) else ((some ((1 : Int32) <<< (x3 &&& 31)) : Option (Int32)))) fun (v5 : Int32) =>
      p_crushedBy_L4 I A R pl n ks u1 k (x2 ||| v5) (x3 + 1))
set_option maxRecDepth 100000 in
set_option maxHeartbeats 4000000 in
theorem p_crushedBy_L4_w {p : Program} {l : Launch} {e : Env} {R0 : Room} {s : State} {m : MethodId} {args : Array Value} {below : List Frame} {meth : Method} {c : Code} {cells slots : Nat} {Q : State → Prop} {D : dd_} {s0 : State} {ad : Nat → Nat} {X : va_W} {base : Nat} (hx : p.tables.exec = Jvm.exec) (hb : c.code = cX1_crushedBy) (hml : c.maxLocals = 4) (hown : s.vm.findClass RX1 = some m.cls) (hts : ∀ w ∈ lw_all, w.before args s = true) (hK : Kx D s) (hY : s0.WarmedH s.vm) (h0 : ∀ w ∈ lw_tbl, va_Nw w s0) (hRf : 6 ≤ R0.frames) (hRl : 141 ≤ R0.locals) (hcs : cells ≤ R0.cells ∧ slots ≤ R0.slots) {H : Heap} {locs : List Loc} (hB : base ≤ H.size) (I : Nat → Int32) (A : Nat → Nat → Int32) (R : Nat → Option Nat) (pl n : Nat) (ks : Nat → Nat) (u1 : Int32) (hR : RegX D X pl n ks) (hW : WX D pS ad I A R nG X H) (y2 : Int32) (y3 : Int32) (KX : ∀ (ls : Array Slot), lv_has ls 4 [(2, .int y2)] → W p l e R0 s m args below meth c H locs cells slots Q (F0 m 43 ls [])) : ∀ (k : Nat) (x2 : Int32) (x3 : Int32) (ls : Array Slot), p_crushedBy_L4 I A R pl n ks u1 k x2 x3 = some (y2, y3) → lv_has ls 4 [(0, .ref (ad 99)), (1, .int u1), (2, .int x2), (3, .int x3)] → W p l e R0 s m args below meth c H locs cells slots Q (F0 m 4 ls []) := by
  intro k
  induction k with
  | zero =>
    intro x2 x3 ls hf
    exact nomatch (show (none : Option (Int32 × Int32)) = some (y2, y3) from hf)
  | succ k ih =>
    intro x2 x3 ls hf hl
    have hf : (ob1 (p_many I A R pl n ks) fun (v1 : Int32) =>
        if v1 ≤ x3 then (some (x2, x3)) else (ob1 (p_loadBy I A R pl n ks x3 u1) fun (v3 : Int32) =>
          ob1 (ldO (A 2) 5 x3) fun (v4 : Int32) =>
          ob1 (if v3 ≤ v4 then ((some 0 : Option (Int32))) else ((some ((1 : Int32) <<< (x3 &&& 31)) : Option (Int32)))) fun (v5 : Int32) =>
          p_crushedBy_L4 I A R pl n ks u1 k (x2 ||| v5) (x3 + 1))) = some (y2, y3) := hf
    refine lv_iload_n hx hb dX1_crushedBy_4 rfl (lv_at hl 3 rfl) ?_
    refine lv_aload_n hx hb dX1_crushedBy_5 rfl (lv_at hl 0 rfl) ?_
    obtain ⟨v1, h1, hf⟩ := ob1_e hf
    refine x_vR (ov := some (.int v1)) (D := D) (s0 := s0) (Sc := pS) (adc := ad) (Ic := I) (Ac := A) (Rc := R) (Gc := nG) (Xc := X) (base := base) (As := []) (rest := [.int x3]) (b := ad 99) (C := RX1) ⟨hx, hb, hml, hown, hts⟩ (p_many_met l D s0 h0 ad X base I A R pl n ks hR  v1 h1) (g_cwV 0 hts (lw_V q872 q602 q603 q77 q604) rfl rfl p_many_ds ⟨Nat.le_trans (Nat.le_of_ble_eq_true rfl) hRf, Nat.le_trans (Nat.le_of_ble_eq_true rfl) hRl⟩) (x_recv hK hW pO rfl) hK hY hB hW hcs rfl hl.1 rfl (Nat.le_of_ble_eq_true rfl) dX1_crushedBy_6 ?_
    refine lv_icmp_ge (tgt := 43) hx hb dX1_crushedBy_9 (by decide) (fun c2 => ?_) (fun c2 => ?_)
    · rw [if_pos c2] at hf
      obtain ⟨rfl, rfl⟩ := so2 hf
      exact KX ls (lv_sub hl [2] rfl)
    · rw [if_neg c2] at hf
      refine lv_iload_n hx hb dX1_crushedBy_12 rfl (lv_at hl 2 rfl) ?_
      refine lv_aload_n hx hb dX1_crushedBy_13 rfl (lv_at hl 0 rfl) ?_
      refine lv_iload_n hx hb dX1_crushedBy_14 rfl (lv_at hl 3 rfl) ?_
      refine lv_iload_n hx hb dX1_crushedBy_15 rfl (lv_at hl 1 rfl) ?_
      obtain ⟨v3, h3, hf⟩ := ob1_e hf
      refine x_vR (ov := some (.int v3)) (D := D) (s0 := s0) (Sc := pS) (adc := ad) (Ic := I) (Ac := A) (Rc := R) (Gc := nG) (Xc := X) (base := base) (As := [.int x3, .int u1]) (rest := [.int x2]) (b := ad 99) (C := RX1) ⟨hx, hb, hml, hown, hts⟩ (p_loadBy_met l D s0 h0 ad X base I A R pl n ks hR x3 u1 v3 h3) (g_cwV 2 hts (lw_V q775 q776 q777 q77 q778) rfl rfl p_loadBy_ds ⟨Nat.le_trans (Nat.le_of_ble_eq_true rfl) hRf, Nat.le_trans (Nat.le_of_ble_eq_true rfl) hRl⟩) (x_recv hK hW pO rfl) hK hY hB hW hcs rfl hl.1 rfl (Nat.le_of_ble_eq_true rfl) dX1_crushedBy_16 ?_
      refine lv_aload_n hx hb dX1_crushedBy_19 rfl (lv_at hl 0 rfl) ?_
      refine x_get (v := .ref (ad 2)) hx hb hts hown hK hW pO in_X1 rfl 2 (by decide) q159 rfl rfl dX1_crushedBy_20 ?_
      refine lv_iload_n hx hb dX1_crushedBy_23 rfl (lv_at hl 3 rfl) ?_
      obtain ⟨v4, hv4, hf⟩ := ob1_e hf
      refine x_iald hx hb hK hW pA2 hv4 dX1_crushedBy_24 ?_
      obtain ⟨v5, hm5, hf⟩ := ob1_e hf
      refine w_cutL (nL := 4) (L := [(0, .ref (ad 99)), (1, .int u1), (3, .int x3)]) (pcj := 35) (st := [.int v5, .int x2]) (fun ls hl => ?_) (fun K5 => ?_)
      · refine lv_ior hx hb dX1_crushedBy_35 ?_
        refine lv_istore_n (lv' := [(2, .int (x2 ||| v5)), (0, .ref (ad 99)), (1, .int u1), (3, .int x3)]) hx hb dX1_crushedBy_36 rfl hl (by decide) rfl (fun ls hl => ?_)
        refine lv_iinc (v := x3 + 1) (lv' := [(3, .int (x3 + 1)), (2, .int (x2 ||| v5)), (0, .ref (ad 99)), (1, .int u1)]) hx hb dX1_crushedBy_37 hl (k := 3) rfl (by rfl) (by decide) rfl (fun ls hl => ?_)
        refine lv_goto (tgt := 4) hx hb dX1_crushedBy_40 (by decide) ?_
        exact ih (x2 ||| v5) (x3 + 1) ls hf (lv_sub hl [2, 3, 1, 0] rfl)
      · refine lv_icmp_le (tgt := 34) hx hb dX1_crushedBy_25 (by decide) (fun c6 => ?_) (fun c6 => ?_)
        · rw [if_pos c6] at hm5
          refine lv_iconst (v := 0) hx hb dX1_crushedBy_34 (by decide) ?_
          obtain rfl := so1 hm5
          exact K5 ls (lv_sub hl [0, 1, 3] rfl)
        · rw [if_neg c6] at hm5
          refine lv_iconst (v := 1) hx hb dX1_crushedBy_28 (by decide) ?_
          refine lv_iload_n hx hb dX1_crushedBy_29 rfl (lv_at hl 3 rfl) ?_
          refine lv_ishl hx hb dX1_crushedBy_30 ?_
          refine lv_goto (tgt := 35) hx hb dX1_crushedBy_31 (by decide) ?_
          obtain rfl := so1 hm5
          exact K5 ls (lv_sub hl [0, 1, 3] rfl)
def p_crushedBy (I : Nat → Int32) (A : Nat → Nat → Int32) (R : Nat → Option Nat) (pl n : Nat) (ks : Nat → Nat) (a0 : Int32) : Option (Int32) :=
  ob2 (p_crushedBy_L4 I A R pl n ks a0 NF 0 0) fun (v1 : Int32) (v2 : Int32) =>
  some v1
set_option maxRecDepth 100000 in
set_option maxHeartbeats 4000000 in
theorem p_crushedBy_met (l : Launch) (D : dd_) (s0 : State) (h0 : ∀ w ∈ lw_tbl, va_Nw w s0) (ad : Nat → Nat) (X : va_W) (base : Nat) (I : Nat → Int32) (A : Nat → Nat → Int32) (R : Nat → Option Nat) (pl n : Nat) (ks : Nat → Nat) (hR : RegX D X pl n ks) (a0 : Int32) (r : Int32) (hf : p_crushedBy I A R pl n ks a0 = some r) : Met l yX1_crushedBy (ws_ yX1_crushedBy cX1_crushedBy 4 (some .int)) ({ frames := 6, cells := 0, slots := 0, locals := 141 }) (PcX D s0 pS ad I A R nG X base [.ref (ad 99), .int a0]) (QcR (some (.int r))) 0 0 (fun _ => False) := by
  refine Met.ofW (cc := cX1_crushedBy) (maxL := 4) (ret := (some .int)) (by decide) rfl ?_
  intro p e s m args below meth c s₁ B hml hv
  obtain ⟨rfl, hK, hY, hB, hW⟩ := hv
  have hx := B.exec
  have hb := B.bytes
  have hr := B.returns
  have hts := atoms_spec (ws := (ws_ yX1_crushedBy cX1_crushedBy 4 (some .int))) B.pre
  have hts : ∀ w ∈ lw_all, w.before _ s = true := fun w h => hts w (List.mem_cons_of_mem _ h)
  have hown : s.vm.findClass RX1 = some m.cls := findClass_of_methodNamed B.named
  have hlocks := B.notSynchronized
  have hRf : 6 ≤ (headSpec (ws_ yX1_crushedBy cX1_crushedBy 4 (some .int)) ({ frames := 6, cells := 0, slots := 0, locals := 141 })).room.frames := Nat.le_refl _
  have hRl : 141 ≤ (headSpec (ws_ yX1_crushedBy cX1_crushedBy 4 (some .int)) ({ frames := 6, cells := 0, slots := 0, locals := 141 })).room.locals := Nat.le_refl _
  have hcs : 0 ≤ (headSpec (ws_ yX1_crushedBy cX1_crushedBy 4 (some .int)) ({ frames := 6, cells := 0, slots := 0, locals := 141 })).room.cells ∧ 0 ≤ (headSpec (ws_ yX1_crushedBy cX1_crushedBy 4 (some .int)) ({ frames := 6, cells := 0, slots := 0, locals := 141 })).room.slots := ⟨Nat.zero_le _, Nat.zero_le _⟩
  have hl := lv_entry ([.ref (ad 99), .int a0]) (n := 4) (Nat.le_of_ble_eq_true rfl)
  rw [lg_entry_eq]
  generalize (lg_sl ([.ref (ad 99), .int a0]) ++ List.replicate (4 - (lg_sl ([.ref (ad 99), .int a0])).length) Slot.unset).toArray = ls at hl ⊢
  have hl : lv_has ls 4 [(0, .ref (ad 99)), (1, .int a0)] := hl
  have hf : (ob2 (p_crushedBy_L4 I A R pl n ks a0 NF 0 0) fun (v1 : Int32) (v2 : Int32) =>
    some v1) = some r := hf
  refine lv_iconst (v := 0) hx hb dX1_crushedBy_0 (by decide) ?_
  refine lv_istore_n (lv' := [(2, .int 0), (0, .ref (ad 99)), (1, .int a0)]) hx hb dX1_crushedBy_1 rfl hl (by decide) rfl (fun ls hl => ?_)
  refine lv_iconst (v := 0) hx hb dX1_crushedBy_2 (by decide) ?_
  refine lv_istore_n (lv' := [(3, .int 0), (2, .int 0), (0, .ref (ad 99)), (1, .int a0)]) hx hb dX1_crushedBy_3 rfl hl (by decide) rfl (fun ls hl => ?_)
  obtain ⟨v1, v2, hq2, hf⟩ := ob2_e hf
  refine p_crushedBy_L4_w hx hb hml hown hts hK hY h0 hRf hRl hcs hB I A R pl n ks a0 hR hW v1 v2 (fun ls hl => ?_) NF 0 0 ls hq2 (lv_sub hl [2, 3, 1, 0] rfl)
  refine lv_iload_n hx hb dX1_crushedBy_43 rfl (lv_at hl 0 rfl) ?_
  obtain rfl := so1 hf
  exact W.iret hx hb hr (fun t ht _ => ⟨rfl, ht⟩) (fun q hq => by cases hq) dX1_crushedBy_44
theorem p_crushedBy_ds : yX1_crushedBy.cls = RX1 ∧ yX1_crushedBy.cls ≠ "java/lang/invoke/MethodHandle" ∧ yX1_crushedBy.cls ≠ "java/lang/invoke/VarHandle" ∧ (parseMethodDescriptor yX1_crushedBy.desc).map (fun d => d.parameters.length) = some 1 := by decide +kernel
def p_crushed (I : Nat → Int32) (A : Nat → Nat → Int32) (R : Nat → Option Nat) (pl n : Nat) (ks : Nat → Nat) : Option (Int32) :=
  ob1 (p_crushedBy I A R pl n ks 10) fun (v1 : Int32) =>
  some v1
set_option maxRecDepth 100000 in
set_option maxHeartbeats 4000000 in
theorem p_crushed_met (l : Launch) (D : dd_) (s0 : State) (h0 : ∀ w ∈ lw_tbl, va_Nw w s0) (ad : Nat → Nat) (X : va_W) (base : Nat) (I : Nat → Int32) (A : Nat → Nat → Int32) (R : Nat → Option Nat) (pl n : Nat) (ks : Nat → Nat) (hR : RegX D X pl n ks) (r : Int32) (hf : p_crushed I A R pl n ks  = some r) : Met l yX1_crushed (ws_ yX1_crushed cX1_crushed 1 (some .int)) ({ frames := 7, cells := 0, slots := 0, locals := 164 }) (PcX D s0 pS ad I A R nG X base [.ref (ad 99)]) (QcR (some (.int r))) 0 0 (fun _ => False) := by
  refine Met.ofW (cc := cX1_crushed) (maxL := 1) (ret := (some .int)) (by decide) rfl ?_
  intro p e s m args below meth c s₁ B hml hv
  obtain ⟨rfl, hK, hY, hB, hW⟩ := hv
  have hx := B.exec
  have hb := B.bytes
  have hr := B.returns
  have hts := atoms_spec (ws := (ws_ yX1_crushed cX1_crushed 1 (some .int))) B.pre
  have hts : ∀ w ∈ lw_all, w.before _ s = true := fun w h => hts w (List.mem_cons_of_mem _ h)
  have hown : s.vm.findClass RX1 = some m.cls := findClass_of_methodNamed B.named
  have hlocks := B.notSynchronized
  have hRf : 7 ≤ (headSpec (ws_ yX1_crushed cX1_crushed 1 (some .int)) ({ frames := 7, cells := 0, slots := 0, locals := 164 })).room.frames := Nat.le_refl _
  have hRl : 164 ≤ (headSpec (ws_ yX1_crushed cX1_crushed 1 (some .int)) ({ frames := 7, cells := 0, slots := 0, locals := 164 })).room.locals := Nat.le_refl _
  have hcs : 0 ≤ (headSpec (ws_ yX1_crushed cX1_crushed 1 (some .int)) ({ frames := 7, cells := 0, slots := 0, locals := 164 })).room.cells ∧ 0 ≤ (headSpec (ws_ yX1_crushed cX1_crushed 1 (some .int)) ({ frames := 7, cells := 0, slots := 0, locals := 164 })).room.slots := ⟨Nat.zero_le _, Nat.zero_le _⟩
  have hl := lv_entry ([.ref (ad 99)]) (n := 1) (Nat.le_of_ble_eq_true rfl)
  rw [lg_entry_eq]
  generalize (lg_sl ([.ref (ad 99)]) ++ List.replicate (1 - (lg_sl ([.ref (ad 99)])).length) Slot.unset).toArray = ls at hl ⊢
  have hl : lv_has ls 1 [(0, .ref (ad 99))] := hl
  have hf : (ob1 (p_crushedBy I A R pl n ks 10) fun (v1 : Int32) =>
    some v1) = some r := hf
  refine lv_aload_n hx hb dX1_crushed_0 rfl (lv_at hl 0 rfl) ?_
  refine lv_bipush (v := 10) hx hb dX1_crushed_1 (by decide) ?_
  obtain ⟨v1, h1, hf⟩ := ob1_e hf
  refine x_vR (ov := some (.int v1)) (D := D) (s0 := s0) (Sc := pS) (adc := ad) (Ic := I) (Ac := A) (Rc := R) (Gc := nG) (Xc := X) (base := base) (As := [.int 10]) (rest := []) (b := ad 99) (C := RX1) ⟨hx, hb, hml, hown, hts⟩ (p_crushedBy_met l D s0 h0 ad X base I A R pl n ks hR 10 v1 h1) (g_cwV 1 hts (lw_V q893 q894 q895 q77 q896) rfl rfl p_crushedBy_ds ⟨Nat.le_trans (Nat.le_of_ble_eq_true rfl) hRf, Nat.le_trans (Nat.le_of_ble_eq_true rfl) hRl⟩) (x_recv hK hW pO rfl) hK hY hB hW hcs rfl hl.1 rfl (Nat.le_of_ble_eq_true rfl) dX1_crushed_3 ?_
  obtain rfl := so1 hf
  exact W.iret hx hb hr (fun t ht _ => ⟨rfl, ht⟩) (fun q hq => by cases hq) dX1_crushed_6
theorem p_crushed_ds : yX1_crushed.cls = RX1 ∧ yX1_crushed.cls ≠ "java/lang/invoke/MethodHandle" ∧ yX1_crushed.cls ≠ "java/lang/invoke/VarHandle" ∧ (parseMethodDescriptor yX1_crushed.desc).map (fun d => d.parameters.length) = some 0 := by decide +kernel
def p_rise (I : Nat → Int32) (A : Nat → Nat → Int32) (R : Nat → Option Nat) (pl n : Nat) (ks : Nat → Nat) (a0 : Int32) (a1 : Int32) : Option (Int32) :=
  ob1 (ldO (A 0) 6 a1) fun (v1 : Int32) =>
  ob1 (ldO (A 0) 6 a0) fun (v2 : Int32) =>
  some (mxI 0 (v1 - v2))
set_option maxRecDepth 100000 in
set_option maxHeartbeats 4000000 in
theorem p_rise_met (l : Launch) (D : dd_) (s0 : State) (h0 : ∀ w ∈ lw_tbl, va_Nw w s0) (ad : Nat → Nat) (X : va_W) (base : Nat) (I : Nat → Int32) (A : Nat → Nat → Int32) (R : Nat → Option Nat) (pl n : Nat) (ks : Nat → Nat) (hR : RegX D X pl n ks) (a0 : Int32) (a1 : Int32) (r : Int32) (hf : p_rise I A R pl n ks a0 a1 = some r) : Met l yX1_rise (ws_ yX1_rise cX1_rise 3 (some .int)) ({ frames := 1, cells := 0, slots := 0, locals := 32 }) (PcX D s0 pS ad I A R nG X base [.ref (ad 99), .int a0, .int a1]) (QcR (some (.int r))) 0 0 (fun _ => False) := by
  refine Met.ofW (cc := cX1_rise) (maxL := 3) (ret := (some .int)) (by decide) rfl ?_
  intro p e s m args below meth c s₁ B hml hv
  obtain ⟨rfl, hK, hY, hB, hW⟩ := hv
  have hx := B.exec
  have hb := B.bytes
  have hr := B.returns
  have hts := atoms_spec (ws := (ws_ yX1_rise cX1_rise 3 (some .int))) B.pre
  have hts : ∀ w ∈ lw_all, w.before _ s = true := fun w h => hts w (List.mem_cons_of_mem _ h)
  have hown : s.vm.findClass RX1 = some m.cls := findClass_of_methodNamed B.named
  have hlocks := B.notSynchronized
  have hRf : 1 ≤ (headSpec (ws_ yX1_rise cX1_rise 3 (some .int)) ({ frames := 1, cells := 0, slots := 0, locals := 32 })).room.frames := Nat.le_refl _
  have hRl : 32 ≤ (headSpec (ws_ yX1_rise cX1_rise 3 (some .int)) ({ frames := 1, cells := 0, slots := 0, locals := 32 })).room.locals := Nat.le_refl _
  have hcs : 0 ≤ (headSpec (ws_ yX1_rise cX1_rise 3 (some .int)) ({ frames := 1, cells := 0, slots := 0, locals := 32 })).room.cells ∧ 0 ≤ (headSpec (ws_ yX1_rise cX1_rise 3 (some .int)) ({ frames := 1, cells := 0, slots := 0, locals := 32 })).room.slots := ⟨Nat.zero_le _, Nat.zero_le _⟩
  have hl := lv_entry ([.ref (ad 99), .int a0, .int a1]) (n := 3) (Nat.le_of_ble_eq_true rfl)
  rw [lg_entry_eq]
  generalize (lg_sl ([.ref (ad 99), .int a0, .int a1]) ++ List.replicate (3 - (lg_sl ([.ref (ad 99), .int a0, .int a1])).length) Slot.unset).toArray = ls at hl ⊢
  have hl : lv_has ls 3 [(0, .ref (ad 99)), (1, .int a0), (2, .int a1)] := hl
  have hf : (ob1 (ldO (A 0) 6 a1) fun (v1 : Int32) =>
    ob1 (ldO (A 0) 6 a0) fun (v2 : Int32) =>
    some (mxI 0 (v1 - v2))) = some r := hf
  refine lv_iconst (v := 0) hx hb dX1_rise_0 (by decide) ?_
  refine lv_aload_n hx hb dX1_rise_1 rfl (lv_at hl 0 rfl) ?_
  refine x_get (v := .ref (ad 0)) hx hb hts hown hK hW pO in_X1 rfl 0 (by decide) q153 rfl rfl dX1_rise_2 ?_
  refine lv_iload_n hx hb dX1_rise_5 rfl (lv_at hl 2 rfl) ?_
  obtain ⟨v1, hv1, hf⟩ := ob1_e hf
  refine x_iald hx hb hK hW pA0 hv1 dX1_rise_6 ?_
  refine lv_aload_n hx hb dX1_rise_7 rfl (lv_at hl 0 rfl) ?_
  refine x_get (v := .ref (ad 0)) hx hb hts hown hK hW pO in_X1 rfl 0 (by decide) q153 rfl rfl dX1_rise_8 ?_
  refine lv_iload_n hx hb dX1_rise_11 rfl (lv_at hl 1 rfl) ?_
  obtain ⟨v2, hv2, hf⟩ := ob1_e hf
  refine x_iald hx hb hK hW pA0 hv2 dX1_rise_12 ?_
  refine lv_isub hx hb dX1_rise_13 ?_
  refine x_max hx hb hml hl.1 hts hown q829 (Nat.le_trans (Nat.le_of_ble_eq_true rfl) hRf) (Nat.le_trans (Nat.le_of_ble_eq_true rfl) hRl) hcs dX1_rise_14 ?_
  obtain rfl := so1 hf
  exact W.iret hx hb hr (fun t ht _ => ⟨rfl, ht⟩) (fun q hq => by cases hq) dX1_rise_17
theorem p_rise_ds : yX1_rise.cls = RX1 ∧ yX1_rise.cls ≠ "java/lang/invoke/MethodHandle" ∧ yX1_rise.cls ≠ "java/lang/invoke/VarHandle" ∧ (parseMethodDescriptor yX1_rise.desc).map (fun d => d.parameters.length) = some 2 := by decide +kernel
def p_mayWalk (I : Nat → Int32) (A : Nat → Nat → Int32) (R : Nat → Option Nat) (pl n : Nat) (ks : Nat → Nat) (a0 : Int32) (a1 : Int32) : Option (Int32) :=
  ob1 (ldO (A 3) 5 a0) fun (v1 : Int32) =>
  ob1 (x_isIn ((v1 + a1).toInt64) 0 5) fun (v2 : Int32) =>
  ob1 (if v2 = 0 then ((some 0 : Option (Int32))) else (ob1 (ldO (A 2) 5 a0) fun (v5 : Int32) =>
      ob1 (p_load I A R pl n ks a0) fun (v6 : Int32) =>
      ob1 (ldO (A 3) 5 a0) fun (v7 : Int32) =>
      ob1 (p_rise I A R pl n ks v7 (v1 + a1)) fun (v8 : Int32) =>
      if v5 < (v6 + v8) then ((some 0 : Option (Int32))) else ((some 1 : Option (Int32))))) fun (v3 : Int32) =>
  zO v3
set_option maxRecDepth 100000 in
set_option maxHeartbeats 4000000 in
theorem p_mayWalk_met (l : Launch) (D : dd_) (s0 : State) (h0 : ∀ w ∈ lw_tbl, va_Nw w s0) (ad : Nat → Nat) (X : va_W) (base : Nat) (I : Nat → Int32) (A : Nat → Nat → Int32) (R : Nat → Option Nat) (pl n : Nat) (ks : Nat → Nat) (hR : RegX D X pl n ks) (a0 : Int32) (a1 : Int32) (r : Int32) (hf : p_mayWalk I A R pl n ks a0 a1 = some r) : Met l yX1_mayWalk (ws_ yX1_mayWalk cX1_mayWalk 4 (some .boolean)) ({ frames := 7, cells := 0, slots := 0, locals := 162 }) (PcX D s0 pS ad I A R nG X base [.ref (ad 99), .int a0, .int a1]) (QcR (some (.int r))) 0 0 (fun _ => False) := by
  refine Met.ofW (cc := cX1_mayWalk) (maxL := 4) (ret := (some .boolean)) (by decide) rfl ?_
  intro p e s m args below meth c s₁ B hml hv
  obtain ⟨rfl, hK, hY, hB, hW⟩ := hv
  have hx := B.exec
  have hb := B.bytes
  have hr := B.returns
  have hts := atoms_spec (ws := (ws_ yX1_mayWalk cX1_mayWalk 4 (some .boolean))) B.pre
  have hts : ∀ w ∈ lw_all, w.before _ s = true := fun w h => hts w (List.mem_cons_of_mem _ h)
  have hown : s.vm.findClass RX1 = some m.cls := findClass_of_methodNamed B.named
  have hlocks := B.notSynchronized
  have hRf : 7 ≤ (headSpec (ws_ yX1_mayWalk cX1_mayWalk 4 (some .boolean)) ({ frames := 7, cells := 0, slots := 0, locals := 162 })).room.frames := Nat.le_refl _
  have hRl : 162 ≤ (headSpec (ws_ yX1_mayWalk cX1_mayWalk 4 (some .boolean)) ({ frames := 7, cells := 0, slots := 0, locals := 162 })).room.locals := Nat.le_refl _
  have hcs : 0 ≤ (headSpec (ws_ yX1_mayWalk cX1_mayWalk 4 (some .boolean)) ({ frames := 7, cells := 0, slots := 0, locals := 162 })).room.cells ∧ 0 ≤ (headSpec (ws_ yX1_mayWalk cX1_mayWalk 4 (some .boolean)) ({ frames := 7, cells := 0, slots := 0, locals := 162 })).room.slots := ⟨Nat.zero_le _, Nat.zero_le _⟩
  have hl := lv_entry ([.ref (ad 99), .int a0, .int a1]) (n := 4) (Nat.le_of_ble_eq_true rfl)
  rw [lg_entry_eq]
  generalize (lg_sl ([.ref (ad 99), .int a0, .int a1]) ++ List.replicate (4 - (lg_sl ([.ref (ad 99), .int a0, .int a1])).length) Slot.unset).toArray = ls at hl ⊢
  have hl : lv_has ls 4 [(0, .ref (ad 99)), (1, .int a0), (2, .int a1)] := hl
  have hf : (ob1 (ldO (A 3) 5 a0) fun (v1 : Int32) =>
    ob1 (x_isIn ((v1 + a1).toInt64) 0 5) fun (v2 : Int32) =>
    ob1 (if v2 = 0 then ((some 0 : Option (Int32))) else (ob1 (ldO (A 2) 5 a0) fun (v5 : Int32) =>
        ob1 (p_load I A R pl n ks a0) fun (v6 : Int32) =>
        ob1 (ldO (A 3) 5 a0) fun (v7 : Int32) =>
        ob1 (p_rise I A R pl n ks v7 (v1 + a1)) fun (v8 : Int32) =>
        if v5 < (v6 + v8) then ((some 0 : Option (Int32))) else ((some 1 : Option (Int32))))) fun (v3 : Int32) =>
    zO v3) = some r := hf
  refine lv_aload_n hx hb dX1_mayWalk_0 rfl (lv_at hl 0 rfl) ?_
  refine x_get (v := .ref (ad 3)) hx hb hts hown hK hW pO in_X1 rfl 3 (by decide) q163 rfl rfl dX1_mayWalk_1 ?_
  refine lv_iload_n hx hb dX1_mayWalk_4 rfl (lv_at hl 1 rfl) ?_
  obtain ⟨v1, hv1, hf⟩ := ob1_e hf
  refine x_iald hx hb hK hW pA3 hv1 dX1_mayWalk_5 ?_
  refine lv_iload_n hx hb dX1_mayWalk_6 rfl (lv_at hl 2 rfl) ?_
  refine lv_iadd hx hb dX1_mayWalk_7 ?_
  refine lv_istore_n (lv' := [(3, .int (v1 + a1)), (0, .ref (ad 99)), (1, .int a0), (2, .int a1)]) hx hb dX1_mayWalk_8 rfl hl (by decide) rfl (fun ls hl => ?_)
  refine lv_iload_n hx hb dX1_mayWalk_9 rfl (lv_at hl 0 rfl) ?_
  refine lv_i2l (v := (v1 + a1).toInt64) hx hb dX1_mayWalk_10 rfl ?_
  refine lv_lconst (v := 0) hx hb dX1_mayWalk_11 (by decide) ?_
  refine lv_ldc2 (v := 5) hx hb hown (hts _ q769) dX1_mayWalk_12 ?_
  obtain ⟨v2, h2, hf⟩ := ob1_e hf
  refine x_snR (ov := some (.int v2)) (D := D) (s0 := s0) (Sc := nS) (adc := ad) (Ic := (fun _ => 0)) (Ac := (fun _ _ => 0)) (Rc := nR) (Gc := nG) (Xc := []) (base := base) (As := [.long ((v1 + a1).toInt64), .long 0, .long 5]) (rest := []) ⟨hx, hb, hml, hown, hts⟩ (x_isIn_met l D s0 h0 ad [] base ((v1 + a1).toInt64) 0 5 v2 h2) ⟨va_cnB 3 hts (lw_meth q287) rfl rfl rfl (va_Nw.warmM hY (h0 _ q770)) (hts _ q76) x_isIn_ds.2 ⟨Nat.le_trans (Nat.le_of_ble_eq_true rfl) hRf, Nat.le_trans (Nat.le_of_ble_eq_true rfl) hRl⟩, hts _ q286, trivial⟩ hK hY hB WX_nil hcs rfl hl.1 rfl (Nat.le_of_ble_eq_true rfl) dX1_mayWalk_15 ?_
  obtain ⟨v3, hm3, hf⟩ := ob1_e hf
  refine w_cutL (nL := 4) (L := []) (pcj := 52) (st := [.int v3]) (fun ls hl => ?_) (fun K3 => ?_)
  · obtain ⟨hz, rfl⟩ := zO_e hf
    exact W.zret hx hb hr (nar_z hz) (fun t ht _ => ⟨rfl, ht⟩) (fun q hq => by cases hq) dX1_mayWalk_52
  · refine lv_if_eq (tgt := 51) hx hb dX1_mayWalk_18 (by decide) (fun c4 => ?_) (fun c4 => ?_)
    · rw [if_pos c4] at hm3
      refine lv_iconst (v := 0) hx hb dX1_mayWalk_51 (by decide) ?_
      obtain rfl := so1 hm3
      exact K3 ls (lv_sub hl [] rfl)
    · rw [if_neg c4] at hm3
      refine lv_aload_n hx hb dX1_mayWalk_21 rfl (lv_at hl 1 rfl) ?_
      refine x_get (v := .ref (ad 2)) hx hb hts hown hK hW pO in_X1 rfl 2 (by decide) q159 rfl rfl dX1_mayWalk_22 ?_
      refine lv_iload_n hx hb dX1_mayWalk_25 rfl (lv_at hl 2 rfl) ?_
      obtain ⟨v5, hv5, hm3⟩ := ob1_e hm3
      refine x_iald hx hb hK hW pA2 hv5 dX1_mayWalk_26 ?_
      refine lv_aload_n hx hb dX1_mayWalk_27 rfl (lv_at hl 1 rfl) ?_
      refine lv_iload_n hx hb dX1_mayWalk_28 rfl (lv_at hl 2 rfl) ?_
      obtain ⟨v6, h6, hm3⟩ := ob1_e hm3
      refine x_vR (ov := some (.int v6)) (D := D) (s0 := s0) (Sc := pS) (adc := ad) (Ic := I) (Ac := A) (Rc := R) (Gc := nG) (Xc := X) (base := base) (As := [.int a0]) (rest := [.int v5]) (b := ad 99) (C := RX1) ⟨hx, hb, hml, hown, hts⟩ (p_load_met l D s0 h0 ad X base I A R pl n ks hR a0 v6 h6) (g_cwV 1 hts (lw_V q771 q772 q773 q77 q774) rfl rfl p_load_ds ⟨Nat.le_trans (Nat.le_of_ble_eq_true rfl) hRf, Nat.le_trans (Nat.le_of_ble_eq_true rfl) hRl⟩) (x_recv hK hW pO rfl) hK hY hB hW hcs rfl hl.1 rfl (Nat.le_of_ble_eq_true rfl) dX1_mayWalk_29 ?_
      refine lv_aload_n hx hb dX1_mayWalk_32 rfl (lv_at hl 1 rfl) ?_
      refine lv_aload_n hx hb dX1_mayWalk_33 rfl (lv_at hl 1 rfl) ?_
      refine x_get (v := .ref (ad 3)) hx hb hts hown hK hW pO in_X1 rfl 3 (by decide) q163 rfl rfl dX1_mayWalk_34 ?_
      refine lv_iload_n hx hb dX1_mayWalk_37 rfl (lv_at hl 2 rfl) ?_
      obtain ⟨v7, hv7, hm3⟩ := ob1_e hm3
      refine x_iald hx hb hK hW pA3 hv7 dX1_mayWalk_38 ?_
      refine lv_iload_n hx hb dX1_mayWalk_39 rfl (lv_at hl 0 rfl) ?_
      obtain ⟨v8, h8, hm3⟩ := ob1_e hm3
      refine x_vR (ov := some (.int v8)) (D := D) (s0 := s0) (Sc := pS) (adc := ad) (Ic := I) (Ac := A) (Rc := R) (Gc := nG) (Xc := X) (base := base) (As := [.int v7, .int (v1 + a1)]) (rest := [.int v6, .int v5]) (b := ad 99) (C := RX1) ⟨hx, hb, hml, hown, hts⟩ (p_rise_met l D s0 h0 ad X base I A R pl n ks hR v7 (v1 + a1) v8 h8) (g_cwV 2 hts (lw_V q825 q826 q827 q77 q828) rfl rfl p_rise_ds ⟨Nat.le_trans (Nat.le_of_ble_eq_true rfl) hRf, Nat.le_trans (Nat.le_of_ble_eq_true rfl) hRl⟩) (x_recv hK hW pO rfl) hK hY hB hW hcs rfl hl.1 rfl (Nat.le_of_ble_eq_true rfl) dX1_mayWalk_40 ?_
      refine lv_iadd hx hb dX1_mayWalk_43 ?_
      refine lv_icmp_lt (tgt := 51) hx hb dX1_mayWalk_44 (by decide) (fun c9 => ?_) (fun c9 => ?_)
      · rw [if_pos c9] at hm3
        refine lv_iconst (v := 0) hx hb dX1_mayWalk_51 (by decide) ?_
        obtain rfl := so1 hm3
        exact K3 ls (lv_sub hl [] rfl)
      · rw [if_neg c9] at hm3
        refine lv_iconst (v := 1) hx hb dX1_mayWalk_47 (by decide) ?_
        refine lv_goto (tgt := 52) hx hb dX1_mayWalk_48 (by decide) ?_
        obtain rfl := so1 hm3
        exact K3 ls (lv_sub hl [] rfl)
theorem p_mayWalk_ds : yX1_mayWalk.cls = RX1 ∧ yX1_mayWalk.cls ≠ "java/lang/invoke/MethodHandle" ∧ yX1_mayWalk.cls ≠ "java/lang/invoke/VarHandle" ∧ (parseMethodDescriptor yX1_mayWalk.desc).map (fun d => d.parameters.length) = some 2 := by decide +kernel
def p_worst_L5 (I : Nat → Int32) (A : Nat → Nat → Int32) (R : Nat → Option Nat) (pl n : Nat) (ks : Nat → Nat) : Nat → Int32 → Int32 → Option (Int32 × Int32)
  | 0, _, _ => none
  | k + 1, x1, x2 =>
    ob1 (p_many I A R pl n ks) fun (v1 : Int32) =>
    if v1 ≤ x2 then (some (x1, x2)) else (ob1 (p_load I A R pl n ks x2) fun (v3 : Int32) =>
      ob1 (ldO (A 2) 5 x2) fun (v4 : Int32) =>
      p_worst_L5 I A R pl n ks k (mxI x1 (v3 - v4)) (x2 + 1))
set_option maxRecDepth 100000 in
set_option maxHeartbeats 4000000 in
theorem p_worst_L5_w {p : Program} {l : Launch} {e : Env} {R0 : Room} {s : State} {m : MethodId} {args : Array Value} {below : List Frame} {meth : Method} {c : Code} {cells slots : Nat} {Q : State → Prop} {D : dd_} {s0 : State} {ad : Nat → Nat} {X : va_W} {base : Nat} (hx : p.tables.exec = Jvm.exec) (hb : c.code = cX1_worst) (hml : c.maxLocals = 3) (hown : s.vm.findClass RX1 = some m.cls) (hts : ∀ w ∈ lw_all, w.before args s = true) (hK : Kx D s) (hY : s0.WarmedH s.vm) (h0 : ∀ w ∈ lw_tbl, va_Nw w s0) (hRf : 7 ≤ R0.frames) (hRl : 162 ≤ R0.locals) (hcs : cells ≤ R0.cells ∧ slots ≤ R0.slots) {H : Heap} {locs : List Loc} (hB : base ≤ H.size) (I : Nat → Int32) (A : Nat → Nat → Int32) (R : Nat → Option Nat) (pl n : Nat) (ks : Nat → Nat) (hR : RegX D X pl n ks) (hW : WX D pS ad I A R nG X H) (y1 : Int32) (y2 : Int32) (KX : ∀ (ls : Array Slot), lv_has ls 3 [(1, .int y1)] → W p l e R0 s m args below meth c H locs cells slots Q (F0 m 36 ls [])) : ∀ (k : Nat) (x1 : Int32) (x2 : Int32) (ls : Array Slot), p_worst_L5 I A R pl n ks k x1 x2 = some (y1, y2) → lv_has ls 3 [(0, .ref (ad 99)), (1, .int x1), (2, .int x2)] → W p l e R0 s m args below meth c H locs cells slots Q (F0 m 5 ls []) := by
  intro k
  induction k with
  | zero =>
    intro x1 x2 ls hf
    exact nomatch (show (none : Option (Int32 × Int32)) = some (y1, y2) from hf)
  | succ k ih =>
    intro x1 x2 ls hf hl
    have hf : (ob1 (p_many I A R pl n ks) fun (v1 : Int32) =>
        if v1 ≤ x2 then (some (x1, x2)) else (ob1 (p_load I A R pl n ks x2) fun (v3 : Int32) =>
          ob1 (ldO (A 2) 5 x2) fun (v4 : Int32) =>
          p_worst_L5 I A R pl n ks k (mxI x1 (v3 - v4)) (x2 + 1))) = some (y1, y2) := hf
    refine lv_iload_n hx hb dX1_worst_5 rfl (lv_at hl 2 rfl) ?_
    refine lv_aload_n hx hb dX1_worst_6 rfl (lv_at hl 0 rfl) ?_
    obtain ⟨v1, h1, hf⟩ := ob1_e hf
    refine x_vR (ov := some (.int v1)) (D := D) (s0 := s0) (Sc := pS) (adc := ad) (Ic := I) (Ac := A) (Rc := R) (Gc := nG) (Xc := X) (base := base) (As := []) (rest := [.int x2]) (b := ad 99) (C := RX1) ⟨hx, hb, hml, hown, hts⟩ (p_many_met l D s0 h0 ad X base I A R pl n ks hR  v1 h1) (g_cwV 0 hts (lw_V q872 q602 q603 q77 q604) rfl rfl p_many_ds ⟨Nat.le_trans (Nat.le_of_ble_eq_true rfl) hRf, Nat.le_trans (Nat.le_of_ble_eq_true rfl) hRl⟩) (x_recv hK hW pO rfl) hK hY hB hW hcs rfl hl.1 rfl (Nat.le_of_ble_eq_true rfl) dX1_worst_7 ?_
    refine lv_icmp_ge (tgt := 36) hx hb dX1_worst_10 (by decide) (fun c2 => ?_) (fun c2 => ?_)
    · rw [if_pos c2] at hf
      obtain ⟨rfl, rfl⟩ := so2 hf
      exact KX ls (lv_sub hl [1] rfl)
    · rw [if_neg c2] at hf
      refine lv_iload_n hx hb dX1_worst_13 rfl (lv_at hl 1 rfl) ?_
      refine lv_aload_n hx hb dX1_worst_14 rfl (lv_at hl 0 rfl) ?_
      refine lv_iload_n hx hb dX1_worst_15 rfl (lv_at hl 2 rfl) ?_
      obtain ⟨v3, h3, hf⟩ := ob1_e hf
      refine x_vR (ov := some (.int v3)) (D := D) (s0 := s0) (Sc := pS) (adc := ad) (Ic := I) (Ac := A) (Rc := R) (Gc := nG) (Xc := X) (base := base) (As := [.int x2]) (rest := [.int x1]) (b := ad 99) (C := RX1) ⟨hx, hb, hml, hown, hts⟩ (p_load_met l D s0 h0 ad X base I A R pl n ks hR x2 v3 h3) (g_cwV 1 hts (lw_V q771 q772 q773 q77 q774) rfl rfl p_load_ds ⟨Nat.le_trans (Nat.le_of_ble_eq_true rfl) hRf, Nat.le_trans (Nat.le_of_ble_eq_true rfl) hRl⟩) (x_recv hK hW pO rfl) hK hY hB hW hcs rfl hl.1 rfl (Nat.le_of_ble_eq_true rfl) dX1_worst_16 ?_
      refine lv_aload_n hx hb dX1_worst_19 rfl (lv_at hl 0 rfl) ?_
      refine x_get (v := .ref (ad 2)) hx hb hts hown hK hW pO in_X1 rfl 2 (by decide) q159 rfl rfl dX1_worst_20 ?_
      refine lv_iload_n hx hb dX1_worst_23 rfl (lv_at hl 2 rfl) ?_
      obtain ⟨v4, hv4, hf⟩ := ob1_e hf
      refine x_iald hx hb hK hW pA2 hv4 dX1_worst_24 ?_
      refine lv_isub hx hb dX1_worst_25 ?_
      refine x_max hx hb hml hl.1 hts hown q829 (Nat.le_trans (Nat.le_of_ble_eq_true rfl) hRf) (Nat.le_trans (Nat.le_of_ble_eq_true rfl) hRl) hcs dX1_worst_26 ?_
      refine lv_istore_n (lv' := [(1, .int (mxI x1 (v3 - v4))), (0, .ref (ad 99)), (2, .int x2)]) hx hb dX1_worst_29 rfl hl (by decide) rfl (fun ls hl => ?_)
      refine lv_iinc (v := x2 + 1) (lv' := [(2, .int (x2 + 1)), (1, .int (mxI x1 (v3 - v4))), (0, .ref (ad 99))]) hx hb dX1_worst_30 hl (k := 2) rfl (by rfl) (by decide) rfl (fun ls hl => ?_)
      refine lv_goto (tgt := 5) hx hb dX1_worst_33 (by decide) ?_
      exact ih (mxI x1 (v3 - v4)) (x2 + 1) ls hf (lv_sub hl [2, 1, 0] rfl)
def p_worst (I : Nat → Int32) (A : Nat → Nat → Int32) (R : Nat → Option Nat) (pl n : Nat) (ks : Nat → Nat) : Option (Int32) :=
  ob2 (p_worst_L5 I A R pl n ks NF (-1000000) 0) fun (v1 : Int32) (v2 : Int32) =>
  some v1
set_option maxRecDepth 100000 in
set_option maxHeartbeats 4000000 in
theorem p_worst_met (l : Launch) (D : dd_) (s0 : State) (h0 : ∀ w ∈ lw_tbl, va_Nw w s0) (ad : Nat → Nat) (X : va_W) (base : Nat) (I : Nat → Int32) (A : Nat → Nat → Int32) (R : Nat → Option Nat) (pl n : Nat) (ks : Nat → Nat) (hR : RegX D X pl n ks) (r : Int32) (hf : p_worst I A R pl n ks  = some r) : Met l yX1_worst (ws_ yX1_worst cX1_worst 3 (some .int)) ({ frames := 7, cells := 0, slots := 0, locals := 162 }) (PcX D s0 pS ad I A R nG X base [.ref (ad 99)]) (QcR (some (.int r))) 0 0 (fun _ => False) := by
  refine Met.ofW (cc := cX1_worst) (maxL := 3) (ret := (some .int)) (by decide) rfl ?_
  intro p e s m args below meth c s₁ B hml hv
  obtain ⟨rfl, hK, hY, hB, hW⟩ := hv
  have hx := B.exec
  have hb := B.bytes
  have hr := B.returns
  have hts := atoms_spec (ws := (ws_ yX1_worst cX1_worst 3 (some .int))) B.pre
  have hts : ∀ w ∈ lw_all, w.before _ s = true := fun w h => hts w (List.mem_cons_of_mem _ h)
  have hown : s.vm.findClass RX1 = some m.cls := findClass_of_methodNamed B.named
  have hlocks := B.notSynchronized
  have hRf : 7 ≤ (headSpec (ws_ yX1_worst cX1_worst 3 (some .int)) ({ frames := 7, cells := 0, slots := 0, locals := 162 })).room.frames := Nat.le_refl _
  have hRl : 162 ≤ (headSpec (ws_ yX1_worst cX1_worst 3 (some .int)) ({ frames := 7, cells := 0, slots := 0, locals := 162 })).room.locals := Nat.le_refl _
  have hcs : 0 ≤ (headSpec (ws_ yX1_worst cX1_worst 3 (some .int)) ({ frames := 7, cells := 0, slots := 0, locals := 162 })).room.cells ∧ 0 ≤ (headSpec (ws_ yX1_worst cX1_worst 3 (some .int)) ({ frames := 7, cells := 0, slots := 0, locals := 162 })).room.slots := ⟨Nat.zero_le _, Nat.zero_le _⟩
  have hl := lv_entry ([.ref (ad 99)]) (n := 3) (Nat.le_of_ble_eq_true rfl)
  rw [lg_entry_eq]
  generalize (lg_sl ([.ref (ad 99)]) ++ List.replicate (3 - (lg_sl ([.ref (ad 99)])).length) Slot.unset).toArray = ls at hl ⊢
  have hl : lv_has ls 3 [(0, .ref (ad 99))] := hl
  have hf : (ob2 (p_worst_L5 I A R pl n ks NF (-1000000) 0) fun (v1 : Int32) (v2 : Int32) =>
    some v1) = some r := hf
  refine lv_ldc (v := (-1000000)) hx hb hown (hts _ q950) dX1_worst_0 ?_
  refine lv_istore_n (lv' := [(1, .int (-1000000)), (0, .ref (ad 99))]) hx hb dX1_worst_2 rfl hl (by decide) rfl (fun ls hl => ?_)
  refine lv_iconst (v := 0) hx hb dX1_worst_3 (by decide) ?_
  refine lv_istore_n (lv' := [(2, .int 0), (1, .int (-1000000)), (0, .ref (ad 99))]) hx hb dX1_worst_4 rfl hl (by decide) rfl (fun ls hl => ?_)
  obtain ⟨v1, v2, hq2, hf⟩ := ob2_e hf
  refine p_worst_L5_w hx hb hml hown hts hK hY h0 hRf hRl hcs hB I A R pl n ks hR hW v1 v2 (fun ls hl => ?_) NF (-1000000) 0 ls hq2 (lv_sub hl [2, 1, 0] rfl)
  refine lv_iload_n hx hb dX1_worst_36 rfl (lv_at hl 0 rfl) ?_
  obtain rfl := so1 hf
  exact W.iret hx hb hr (fun t ht _ => ⟨rfl, ht⟩) (fun q hq => by cases hq) dX1_worst_37
theorem p_worst_ds : yX1_worst.cls = RX1 ∧ yX1_worst.cls ≠ "java/lang/invoke/MethodHandle" ∧ yX1_worst.cls ≠ "java/lang/invoke/VarHandle" ∧ (parseMethodDescriptor yX1_worst.desc).map (fun d => d.parameters.length) = some 0 := by decide +kernel
def p_pass_L2 (I : Nat → Int32) (R : Nat → Option Nat) (pl n : Nat) (ks : Nat → Nat) : Nat → (Nat → Nat → Int32) → Int32 → Option ((Nat → Nat → Int32) × Int32)
  | 0, _, _ => none
  | k + 1, A, x1 =>
    ob1 (p_many I A R pl n ks) fun (v1 : Int32) =>
    if v1 ≤ x1 then (some (A, x1)) else (ob1 (grd (R 1) pl) fun (z3 : Unit) =>
      ob1 (pgO n x1) fun (j4 : Nat) =>
      ob1 (k_grows (ks j4) ) fun (v5 : Int32) =>
      ob1 (if v5 = 0 then (ob1 (ldO (A 2) 5 x1) fun (v8 : Int32) =>
          (some v8 : Option (Int32))) else (ob1 (ldO (A 2) 5 x1) fun (v9 : Int32) =>
          (some (mnI 99 (v9 + 1)) : Option (Int32)))) fun (v6 : Int32) =>
      ob1 (stO (A 2) 5 x1 v6) fun (f10 : Nat → Int32) =>
      p_pass_L2 I R pl n ks k (va_up A 2 f10) (x1 + 1))
set_option maxRecDepth 100000 in
set_option maxHeartbeats 4000000 in
theorem p_pass_L2_w {p : Program} {l : Launch} {e : Env} {R0 : Room} {s : State} {m : MethodId} {args : Array Value} {below : List Frame} {meth : Method} {c : Code} {cells slots : Nat} {Q : State → Prop} {D : dd_} {s0 : State} {ad : Nat → Nat} {X : va_W} {base : Nat} (hx : p.tables.exec = Jvm.exec) (hb : c.code = cX1_pass) (hml : c.maxLocals = 2) (hown : s.vm.findClass RX1 = some m.cls) (hts : ∀ w ∈ lw_all, w.before args s = true) (hK : Kx D s) (hY : s0.WarmedH s.vm) (h0 : ∀ w ∈ lw_tbl, va_Nw w s0) (hRf : 4 ≤ R0.frames) (hRl : 96 ≤ R0.locals) (hcs : cells ≤ R0.cells ∧ slots ≤ R0.slots) (hB0 : base ≤ s.heap.size) (hAP : AP pS ad X base) (I : Nat → Int32) (R : Nat → Option Nat) (pl n : Nat) (ks : Nat → Nat) (hR : RegX D X pl n ks) (A9 : (Nat → Nat → Int32)) (y1 : Int32) (KX : ∀ (H : Heap) (locs : List Loc) (ls : Array Slot), WX D pS ad I A9 R nG X H → va_S (upB base) s.heap H locs → lv_has ls 2 [(0, .ref (ad 99))] → W p l e R0 s m args below meth c H locs cells slots Q (F0 m 63 ls [])) : ∀ (k : Nat) (A : (Nat → Nat → Int32)) (x1 : Int32) (H : Heap) (locs : List Loc) (ls : Array Slot), p_pass_L2 I R pl n ks k A x1 = some (A9, y1) → WX D pS ad I A R nG X H → va_S (upB base) s.heap H locs → lv_has ls 2 [(0, .ref (ad 99)), (1, .int x1)] → W p l e R0 s m args below meth c H locs cells slots Q (F0 m 2 ls []) := by
  intro k
  induction k with
  | zero =>
    intro A x1 H locs ls hf
    exact nomatch (show (none : Option ((Nat → Nat → Int32) × Int32)) = some (A9, y1) from hf)
  | succ k ih =>
    intro A x1 H locs ls hf hW hS hl
    have hf : (ob1 (p_many I A R pl n ks) fun (v1 : Int32) =>
        if v1 ≤ x1 then (some (A, x1)) else (ob1 (grd (R 1) pl) fun (z3 : Unit) =>
          ob1 (pgO n x1) fun (j4 : Nat) =>
          ob1 (k_grows (ks j4) ) fun (v5 : Int32) =>
          ob1 (if v5 = 0 then (ob1 (ldO (A 2) 5 x1) fun (v8 : Int32) =>
              (some v8 : Option (Int32))) else (ob1 (ldO (A 2) 5 x1) fun (v9 : Int32) =>
              (some (mnI 99 (v9 + 1)) : Option (Int32)))) fun (v6 : Int32) =>
          ob1 (stO (A 2) 5 x1 v6) fun (f10 : Nat → Int32) =>
          p_pass_L2 I R pl n ks k (va_up A 2 f10) (x1 + 1))) = some (A9, y1) := hf
    refine lv_iload_n hx hb dX1_pass_2 rfl (lv_at hl 1 rfl) ?_
    refine lv_aload_n hx hb dX1_pass_3 rfl (lv_at hl 0 rfl) ?_
    obtain ⟨v1, h1, hf⟩ := ob1_e hf
    refine x_vR (ov := some (.int v1)) (D := D) (s0 := s0) (Sc := pS) (adc := ad) (Ic := I) (Ac := A) (Rc := R) (Gc := nG) (Xc := X) (base := base) (As := []) (rest := [.int x1]) (b := ad 99) (C := RX1) ⟨hx, hb, hml, hown, hts⟩ (p_many_met l D s0 h0 ad X base I A R pl n ks hR  v1 h1) (g_cwV 0 hts (lw_V q872 q602 q603 q77 q604) rfl rfl p_many_ds ⟨Nat.le_trans (Nat.le_of_ble_eq_true rfl) hRf, Nat.le_trans (Nat.le_of_ble_eq_true rfl) hRl⟩) (x_recv hK hW pO rfl) hK hY (Nat.le_trans hB0 hS.1) hW hcs rfl hl.1 rfl (Nat.le_of_ble_eq_true rfl) dX1_pass_4 ?_
    refine lv_icmp_ge (tgt := 63) hx hb dX1_pass_7 (by decide) (fun c2 => ?_) (fun c2 => ?_)
    · rw [if_pos c2] at hf
      obtain ⟨rfl, rfl⟩ := so2 hf
      exact KX _ _ ls hW hS (lv_sub hl [0] rfl)
    · rw [if_neg c2] at hf
      refine lv_aload_n hx hb dX1_pass_10 rfl (lv_at hl 0 rfl) ?_
      refine x_get (v := .ref (ad 2)) hx hb hts hown hK hW pO in_X1 rfl 2 (by decide) q159 rfl rfl dX1_pass_11 ?_
      refine lv_iload_n hx hb dX1_pass_14 rfl (lv_at hl 1 rfl) ?_
      refine lv_aload_n hx hb dX1_pass_15 rfl (lv_at hl 0 rfl) ?_
      obtain ⟨z3, hz3, hf⟩ := ob1_e hf
      refine x_get (v := .ref pl) hx hb hts hown hK hW pO in_X1 rfl 1 (by decide) q156 rfl (congrArg (fun z => some (va_rf z)) (grd_e hz3)) dX1_pass_16 ?_
      refine lv_iload_n hx hb dX1_pass_19 rfl (lv_at hl 1 rfl) ?_
      obtain ⟨j4, hj4, hf⟩ := ob1_e hf
      refine pe_get_X1 hx hb hml hown hts hK hY h0 (Nat.le_trans (Nat.le_of_ble_eq_true rfl) hRf) (Nat.le_trans (Nat.le_of_ble_eq_true rfl) hRl) hcs (Nat.le_trans hB0 hS.1) hW hR hj4 hl.1 (Nat.le_of_ble_eq_true rfl) dX1_pass_20 (fun paj4 hmpaj4 h1paj4 h5paj4 => ?_)
      refine pe_cast_X1 hx hb hown hts hK hY h0 hW hmpaj4 h1paj4 h5paj4 dX1_pass_25 ?_
      obtain ⟨v5, hv5, hf⟩ := ob1_e hf
      refine pe_grows_X1 hx hb hml hown hts hK hY h0 (Nat.le_trans (Nat.le_of_ble_eq_true rfl) hRf) (Nat.le_trans (Nat.le_of_ble_eq_true rfl) hRl) hcs (Nat.le_trans hB0 hS.1) hW hmpaj4 h1paj4 h5paj4 hv5 hl.1 (Nat.le_of_ble_eq_true rfl) dX1_pass_28 ?_
      obtain ⟨v6, hm6, hf⟩ := ob1_e hf
      refine w_cutL (nL := 2) (L := [(0, .ref (ad 99)), (1, .int x1)]) (pcj := 56) (st := [.int v6, .int x1, .ref (ad 2)]) (fun ls hl => ?_) (fun K6 => ?_)
      · obtain ⟨f10, hf10, hf⟩ := ob1_e hf
        refine x_iast hx hb hK pwf hAP hW hS pA2 hf10 dX1_pass_56 (fun H locs hW hS => ?_)
        refine lv_iinc (v := x1 + 1) (lv' := [(1, .int (x1 + 1)), (0, .ref (ad 99))]) hx hb dX1_pass_57 hl (k := 1) rfl (by rfl) (by decide) rfl (fun ls hl => ?_)
        refine lv_goto (tgt := 2) hx hb dX1_pass_60 (by decide) ?_
        exact ih (va_up A 2 f10) (x1 + 1) _ _ ls hf hW hS (lv_sub hl [1, 0] rfl)
      · refine lv_if_eq (tgt := 50) hx hb dX1_pass_31 (by decide) (fun c7 => ?_) (fun c7 => ?_)
        · rw [if_pos c7] at hm6
          refine lv_aload_n hx hb dX1_pass_50 rfl (lv_at hl 0 rfl) ?_
          refine x_get (v := .ref (ad 2)) hx hb hts hown hK hW pO in_X1 rfl 2 (by decide) q159 rfl rfl dX1_pass_51 ?_
          refine lv_iload_n hx hb dX1_pass_54 rfl (lv_at hl 1 rfl) ?_
          obtain ⟨v8, hv8, hm6⟩ := ob1_e hm6
          refine x_iald hx hb hK hW pA2 hv8 dX1_pass_55 ?_
          obtain rfl := so1 hm6
          exact K6 ls (lv_sub hl [0, 1] rfl)
        · rw [if_neg c7] at hm6
          refine lv_bipush (v := 99) hx hb dX1_pass_34 (by decide) ?_
          refine lv_aload_n hx hb dX1_pass_36 rfl (lv_at hl 0 rfl) ?_
          refine x_get (v := .ref (ad 2)) hx hb hts hown hK hW pO in_X1 rfl 2 (by decide) q159 rfl rfl dX1_pass_37 ?_
          refine lv_iload_n hx hb dX1_pass_40 rfl (lv_at hl 1 rfl) ?_
          obtain ⟨v9, hv9, hm6⟩ := ob1_e hm6
          refine x_iald hx hb hK hW pA2 hv9 dX1_pass_41 ?_
          refine lv_iconst (v := 1) hx hb dX1_pass_42 (by decide) ?_
          refine lv_iadd hx hb dX1_pass_43 ?_
          refine x_min hx hb hml hl.1 hts hown q884 (Nat.le_trans (Nat.le_of_ble_eq_true rfl) hRf) (Nat.le_trans (Nat.le_of_ble_eq_true rfl) hRl) hcs dX1_pass_44 ?_
          refine lv_goto (tgt := 56) hx hb dX1_pass_47 (by decide) ?_
          obtain rfl := so1 hm6
          exact K6 ls (lv_sub hl [0, 1] rfl)
def p_pass (I : Nat → Int32) (A : Nat → Nat → Int32) (R : Nat → Option Nat) (pl n : Nat) (ks : Nat → Nat) : Option ((Nat → Int32) × (Nat → Nat → Int32)) :=
  ob2 (p_pass_L2 I R pl n ks NF A 0) fun (A1 : Nat → Nat → Int32) (v2 : Int32) =>
  some (upd I 11 ((I 11) + 1), A1)
set_option maxRecDepth 100000 in
set_option maxHeartbeats 4000000 in
theorem p_pass_met (l : Launch) (D : dd_) (s0 : State) (h0 : ∀ w ∈ lw_tbl, va_Nw w s0) (ad : Nat → Nat) (X : va_W) (base : Nat) (hAP : AP pS ad X base) (I : Nat → Int32) (A : Nat → Nat → Int32) (R : Nat → Option Nat) (pl n : Nat) (ks : Nat → Nat) (hR : RegX D X pl n ks) (I1 : (Nat → Int32)) (A1 : (Nat → Nat → Int32)) (hf : p_pass I A R pl n ks  = some (I1, A1)) : Met l yX1_pass (ws_ yX1_pass cX1_pass 2 none) ({ frames := 4, cells := 0, slots := 0, locals := 96 }) (PcX D s0 pS ad I A R nG X base [.ref (ad 99)]) (QcX D pS ad I1 A1 R nG X base (none)) 0 0 (upB base) := by
  refine Met.ofW (cc := cX1_pass) (maxL := 2) (ret := none) (by decide) rfl ?_
  intro p e s m args below meth c s₁ B hml hv
  obtain ⟨rfl, hK, hY, hB0, hW⟩ := hv
  have hx := B.exec
  have hb := B.bytes
  have hr := B.returns
  have hts := atoms_spec (ws := (ws_ yX1_pass cX1_pass 2 none)) B.pre
  have hts : ∀ w ∈ lw_all, w.before _ s = true := fun w h => hts w (List.mem_cons_of_mem _ h)
  have hown : s.vm.findClass RX1 = some m.cls := findClass_of_methodNamed B.named
  have hlocks := B.notSynchronized
  have hRf : 4 ≤ (headSpec (ws_ yX1_pass cX1_pass 2 none) ({ frames := 4, cells := 0, slots := 0, locals := 96 })).room.frames := Nat.le_refl _
  have hRl : 96 ≤ (headSpec (ws_ yX1_pass cX1_pass 2 none) ({ frames := 4, cells := 0, slots := 0, locals := 96 })).room.locals := Nat.le_refl _
  have hcs : 0 ≤ (headSpec (ws_ yX1_pass cX1_pass 2 none) ({ frames := 4, cells := 0, slots := 0, locals := 96 })).room.cells ∧ 0 ≤ (headSpec (ws_ yX1_pass cX1_pass 2 none) ({ frames := 4, cells := 0, slots := 0, locals := 96 })).room.slots := ⟨Nat.zero_le _, Nat.zero_le _⟩
  have hS : va_S (upB base) s.heap s.heap [] := va_S.rf
  have hl := lv_entry ([.ref (ad 99)]) (n := 2) (Nat.le_of_ble_eq_true rfl)
  rw [lg_entry_eq]
  generalize (lg_sl ([.ref (ad 99)]) ++ List.replicate (2 - (lg_sl ([.ref (ad 99)])).length) Slot.unset).toArray = ls at hl ⊢
  have hl : lv_has ls 2 [(0, .ref (ad 99))] := hl
  have hf : (ob2 (p_pass_L2 I R pl n ks NF A 0) fun (A1 : Nat → Nat → Int32) (v2 : Int32) =>
    some (upd I 11 ((I 11) + 1), A1)) = some (I1, A1) := hf
  refine lv_iconst (v := 0) hx hb dX1_pass_0 (by decide) ?_
  refine lv_istore_n (lv' := [(1, .int 0), (0, .ref (ad 99))]) hx hb dX1_pass_1 rfl hl (by decide) rfl (fun ls hl => ?_)
  obtain ⟨A1, v2, hq2, hf⟩ := ob2_e hf
  refine p_pass_L2_w hx hb hml hown hts hK hY h0 hRf hRl hcs hB0 hAP I R pl n ks hR A1 v2 (fun H locs ls hW hS hl => ?_) NF A 0 _ _ ls hq2 hW hS (lv_sub hl [1, 0] rfl)
  refine lv_aload_n hx hb dX1_pass_63 rfl (lv_at hl 0 rfl) ?_
  refine lv_dup hx hb dX1_pass_64 rfl ?_
  refine x_get (v := .int (I 11)) hx hb hts hown hK hW pO in_X1 rfl 11 (by decide) q181 rfl rfl dX1_pass_65 ?_
  refine lv_iconst (v := 1) hx hb dX1_pass_68 (by decide) ?_
  refine lv_iadd hx hb dX1_pass_69 ?_
  refine x_putI hx hb hts hown hK pwf hAP hW hS pO in_X1 tyX1 tyX1_ok nmX1 rfl 11 11 (by decide) rfl q181 rfl rfl (by decide +kernel) dX1_pass_70 (fun H locs hW hS => ?_)
  obtain ⟨rfl, rfl⟩ := so2 hf
  exact W.vret hx hb hr (fun t ht _ => ⟨rfl, by rw [ht]; exact hW, hS.F ht⟩) hS.2.2 dX1_pass_73
theorem p_pass_ds : yX1_pass.cls = RX1 ∧ yX1_pass.cls ≠ "java/lang/invoke/MethodHandle" ∧ yX1_pass.cls ≠ "java/lang/invoke/VarHandle" ∧ (parseMethodDescriptor yX1_pass.desc).map (fun d => d.parameters.length) = some 0 := by decide +kernel
/-! become: two parishes -/
abbrev p2S : sp_ := ([(99, 2, [.inr (.inl 0), .inr (.inr 1), .inr (.inl 2), .inr (.inl 3), .inl 4, .inr (.inl 5), .inr (.inl 6), .inr (.inl 7), .inr (.inl 8), .inr (.inl 9), .inl 10, .inl 11]), (199, 2, [.inr (.inl 100), .inr (.inr 101), .inr (.inl 102), .inr (.inl 103), .inl 104, .inr (.inl 105), .inr (.inl 106), .inr (.inl 107), .inr (.inl 108), .inr (.inl 109), .inl 110, .inl 111])], [(0, 6, .int), (2, 5, .int), (3, 5, .int), (5, 8, .int), (6, 8, .int), (7, 8, .int), (8, 8, .int), (9, 8, .int), (100, 6, .int), (102, 5, .int), (103, 5, .int), (105, 8, .int), (106, 8, .int), (107, 8, .int), (108, 8, .int), (109, 8, .int)], [])
theorem p2wf : wfS p2S := ⟨by decide +kernel, by decide +kernel, by decide +kernel, by decide +kernel, by decide +kernel, by decide +kernel⟩
theorem p2O99 : ((99, 2, [.inr (.inl 0), .inr (.inr 1), .inr (.inl 2), .inr (.inl 3), .inl 4, .inr (.inl 5), .inr (.inl 6), .inr (.inl 7), .inr (.inl 8), .inr (.inl 9), .inl 10, .inl 11]) : Nat × Nat × List fc_) ∈ p2S.1 := List.mem_of_getElem? (i := 0) rfl
theorem p2O199 : ((199, 2, [.inr (.inl 100), .inr (.inr 101), .inr (.inl 102), .inr (.inl 103), .inl 104, .inr (.inl 105), .inr (.inl 106), .inr (.inl 107), .inr (.inl 108), .inr (.inl 109), .inl 110, .inl 111]) : Nat × Nat × List fc_) ∈ p2S.1 := List.mem_of_getElem? (i := 1) rfl
theorem p2A0 : ((0, 6, .int) : Nat × Nat × FieldType) ∈ p2S.2.1 := List.mem_of_getElem? (i := 0) rfl
theorem p2A2 : ((2, 5, .int) : Nat × Nat × FieldType) ∈ p2S.2.1 := List.mem_of_getElem? (i := 1) rfl
theorem p2A3 : ((3, 5, .int) : Nat × Nat × FieldType) ∈ p2S.2.1 := List.mem_of_getElem? (i := 2) rfl
theorem p2A5 : ((5, 8, .int) : Nat × Nat × FieldType) ∈ p2S.2.1 := List.mem_of_getElem? (i := 3) rfl
theorem p2A6 : ((6, 8, .int) : Nat × Nat × FieldType) ∈ p2S.2.1 := List.mem_of_getElem? (i := 4) rfl
theorem p2A7 : ((7, 8, .int) : Nat × Nat × FieldType) ∈ p2S.2.1 := List.mem_of_getElem? (i := 5) rfl
theorem p2A8 : ((8, 8, .int) : Nat × Nat × FieldType) ∈ p2S.2.1 := List.mem_of_getElem? (i := 6) rfl
theorem p2A9 : ((9, 8, .int) : Nat × Nat × FieldType) ∈ p2S.2.1 := List.mem_of_getElem? (i := 7) rfl
theorem p2A100 : ((100, 6, .int) : Nat × Nat × FieldType) ∈ p2S.2.1 := List.mem_of_getElem? (i := 8) rfl
theorem p2A102 : ((102, 5, .int) : Nat × Nat × FieldType) ∈ p2S.2.1 := List.mem_of_getElem? (i := 9) rfl
theorem p2A103 : ((103, 5, .int) : Nat × Nat × FieldType) ∈ p2S.2.1 := List.mem_of_getElem? (i := 10) rfl
theorem p2A105 : ((105, 8, .int) : Nat × Nat × FieldType) ∈ p2S.2.1 := List.mem_of_getElem? (i := 11) rfl
theorem p2A106 : ((106, 8, .int) : Nat × Nat × FieldType) ∈ p2S.2.1 := List.mem_of_getElem? (i := 12) rfl
theorem p2A107 : ((107, 8, .int) : Nat × Nat × FieldType) ∈ p2S.2.1 := List.mem_of_getElem? (i := 13) rfl
theorem p2A108 : ((108, 8, .int) : Nat × Nat × FieldType) ∈ p2S.2.1 := List.mem_of_getElem? (i := 14) rfl
theorem p2A109 : ((109, 8, .int) : Nat × Nat × FieldType) ∈ p2S.2.1 := List.mem_of_getElem? (i := 15) rfl
def p_become (I : Nat → Int32) (A : Nat → Nat → Int32) (R : Nat → Option Nat) : Option ((Nat → Int32) × (Nat → Nat → Int32) × (Nat → Option Nat)) :=
  ob1 (cpO (A 100) (A 0) 6 6 0 0 6) fun (f1 : Nat → Int32) =>
  ob1 (cpO ((va_up A 0 f1) 102) ((va_up A 0 f1) 2) 5 5 0 0 5) fun (f2 : Nat → Int32) =>
  ob1 (cpO ((va_up (va_up A 0 f1) 2 f2) 103) ((va_up (va_up A 0 f1) 2 f2) 3) 5 5 0 0 5) fun (f3 : Nat → Int32) =>
  ob1 (cpO ((va_up (va_up (va_up A 0 f1) 2 f2) 3 f3) 105) ((va_up (va_up (va_up A 0 f1) 2 f2) 3 f3) 5) 8 8 0 0 8) fun (f4 : Nat → Int32) =>
  ob1 (cpO ((va_up (va_up (va_up (va_up A 0 f1) 2 f2) 3 f3) 5 f4) 106) ((va_up (va_up (va_up (va_up A 0 f1) 2 f2) 3 f3) 5 f4) 6) 8 8 0 0 8) fun (f5 : Nat → Int32) =>
  ob1 (cpO ((va_up (va_up (va_up (va_up (va_up A 0 f1) 2 f2) 3 f3) 5 f4) 6 f5) 107) ((va_up (va_up (va_up (va_up (va_up A 0 f1) 2 f2) 3 f3) 5 f4) 6 f5) 7) 8 8 0 0 8) fun (f6 : Nat → Int32) =>
  ob1 (cpO ((va_up (va_up (va_up (va_up (va_up (va_up A 0 f1) 2 f2) 3 f3) 5 f4) 6 f5) 7 f6) 108) ((va_up (va_up (va_up (va_up (va_up (va_up A 0 f1) 2 f2) 3 f3) 5 f4) 6 f5) 7 f6) 8) 8 8 0 0 8) fun (f7 : Nat → Int32) =>
  ob1 (cpO ((va_up (va_up (va_up (va_up (va_up (va_up (va_up A 0 f1) 2 f2) 3 f3) 5 f4) 6 f5) 7 f6) 8 f7) 109) ((va_up (va_up (va_up (va_up (va_up (va_up (va_up A 0 f1) 2 f2) 3 f3) 5 f4) 6 f5) 7 f6) 8 f7) 9) 8 8 0 0 8) fun (f8 : Nat → Int32) =>
  some (upd (upd (upd I 4 (I 104)) 10 ((upd I 4 (I 104)) 110)) 11 ((upd (upd I 4 (I 104)) 10 ((upd I 4 (I 104)) 110)) 111), va_up (va_up (va_up (va_up (va_up (va_up (va_up (va_up A 0 f1) 2 f2) 3 f3) 5 f4) 6 f5) 7 f6) 8 f7) 9 f8, va_up R 1 (R 101))
set_option maxRecDepth 100000 in
set_option maxHeartbeats 4000000 in
theorem p_become_met (l : Launch) (D : dd_) (s0 : State) (h0 : ∀ w ∈ lw_tbl, va_Nw w s0) (ad : Nat → Nat) (X : va_W) (base : Nat) (hAP : AP p2S ad X base) (I : Nat → Int32) (A : Nat → Nat → Int32) (R : Nat → Option Nat) (I1 : (Nat → Int32)) (A1 : (Nat → Nat → Int32)) (R1 : (Nat → Option Nat)) (hf : p_become I A R  = some (I1, A1, R1)) : Met l yX1_become (ws_ yX1_become cX1_become 2 (some (.object "PromisePounds$Parish"))) ({ frames := 1, cells := 0, slots := 0, locals := 64 }) (PcX D s0 p2S ad I A R nG X base [.ref (ad 99), .ref (ad 199)]) (QcX D p2S ad I1 A1 R1 nG X base (some (.ref (ad 99)))) 0 0 (upB base) := by
  refine Met.ofW (cc := cX1_become) (maxL := 2) (ret := (some (.object "PromisePounds$Parish"))) (by decide) rfl ?_
  intro p e s m args below meth c s₁ B hml hv
  obtain ⟨rfl, hK, hY, hB0, hW⟩ := hv
  have hx := B.exec
  have hb := B.bytes
  have hr := B.returns
  have hts := atoms_spec (ws := (ws_ yX1_become cX1_become 2 (some (.object "PromisePounds$Parish")))) B.pre
  have hts : ∀ w ∈ lw_all, w.before _ s = true := fun w h => hts w (List.mem_cons_of_mem _ h)
  have hown : s.vm.findClass RX1 = some m.cls := findClass_of_methodNamed B.named
  have hlocks := B.notSynchronized
  have hRf : 1 ≤ (headSpec (ws_ yX1_become cX1_become 2 (some (.object "PromisePounds$Parish"))) ({ frames := 1, cells := 0, slots := 0, locals := 64 })).room.frames := Nat.le_refl _
  have hRl : 64 ≤ (headSpec (ws_ yX1_become cX1_become 2 (some (.object "PromisePounds$Parish"))) ({ frames := 1, cells := 0, slots := 0, locals := 64 })).room.locals := Nat.le_refl _
  have hcs : 0 ≤ (headSpec (ws_ yX1_become cX1_become 2 (some (.object "PromisePounds$Parish"))) ({ frames := 1, cells := 0, slots := 0, locals := 64 })).room.cells ∧ 0 ≤ (headSpec (ws_ yX1_become cX1_become 2 (some (.object "PromisePounds$Parish"))) ({ frames := 1, cells := 0, slots := 0, locals := 64 })).room.slots := ⟨Nat.zero_le _, Nat.zero_le _⟩
  have hS : va_S (upB base) s.heap s.heap [] := va_S.rf
  have hl := lv_entry ([.ref (ad 99), .ref (ad 199)]) (n := 2) (Nat.le_of_ble_eq_true rfl)
  rw [lg_entry_eq]
  generalize (lg_sl ([.ref (ad 99), .ref (ad 199)]) ++ List.replicate (2 - (lg_sl ([.ref (ad 99), .ref (ad 199)])).length) Slot.unset).toArray = ls at hl ⊢
  have hl : lv_has ls 2 [(0, .ref (ad 99)), (1, .ref (ad 199))] := hl
  have hf : (ob1 (cpO (A 100) (A 0) 6 6 0 0 6) fun (f1 : Nat → Int32) =>
    ob1 (cpO ((va_up A 0 f1) 102) ((va_up A 0 f1) 2) 5 5 0 0 5) fun (f2 : Nat → Int32) =>
    ob1 (cpO ((va_up (va_up A 0 f1) 2 f2) 103) ((va_up (va_up A 0 f1) 2 f2) 3) 5 5 0 0 5) fun (f3 : Nat → Int32) =>
    ob1 (cpO ((va_up (va_up (va_up A 0 f1) 2 f2) 3 f3) 105) ((va_up (va_up (va_up A 0 f1) 2 f2) 3 f3) 5) 8 8 0 0 8) fun (f4 : Nat → Int32) =>
    ob1 (cpO ((va_up (va_up (va_up (va_up A 0 f1) 2 f2) 3 f3) 5 f4) 106) ((va_up (va_up (va_up (va_up A 0 f1) 2 f2) 3 f3) 5 f4) 6) 8 8 0 0 8) fun (f5 : Nat → Int32) =>
    ob1 (cpO ((va_up (va_up (va_up (va_up (va_up A 0 f1) 2 f2) 3 f3) 5 f4) 6 f5) 107) ((va_up (va_up (va_up (va_up (va_up A 0 f1) 2 f2) 3 f3) 5 f4) 6 f5) 7) 8 8 0 0 8) fun (f6 : Nat → Int32) =>
    ob1 (cpO ((va_up (va_up (va_up (va_up (va_up (va_up A 0 f1) 2 f2) 3 f3) 5 f4) 6 f5) 7 f6) 108) ((va_up (va_up (va_up (va_up (va_up (va_up A 0 f1) 2 f2) 3 f3) 5 f4) 6 f5) 7 f6) 8) 8 8 0 0 8) fun (f7 : Nat → Int32) =>
    ob1 (cpO ((va_up (va_up (va_up (va_up (va_up (va_up (va_up A 0 f1) 2 f2) 3 f3) 5 f4) 6 f5) 7 f6) 8 f7) 109) ((va_up (va_up (va_up (va_up (va_up (va_up (va_up A 0 f1) 2 f2) 3 f3) 5 f4) 6 f5) 7 f6) 8 f7) 9) 8 8 0 0 8) fun (f8 : Nat → Int32) =>
    some (upd (upd (upd I 4 (I 104)) 10 ((upd I 4 (I 104)) 110)) 11 ((upd (upd I 4 (I 104)) 10 ((upd I 4 (I 104)) 110)) 111), va_up (va_up (va_up (va_up (va_up (va_up (va_up (va_up A 0 f1) 2 f2) 3 f3) 5 f4) 6 f5) 7 f6) 8 f7) 9 f8, va_up R 1 (R 101))) = some (I1, A1, R1) := hf
  refine lv_aload_n hx hb dX1_become_0 rfl (lv_at hl 0 rfl) ?_
  refine lv_aload_n hx hb dX1_become_1 rfl (lv_at hl 1 rfl) ?_
  refine x_get (v := va_rf (R 101)) hx hb hts hown hK hW p2O199 in_X1 rfl 1 (by decide) q156 rfl rfl dX1_become_2 ?_
  refine x_putR (x := R 101) (o := "java/util/List") hx hb hts hown hK p2wf hAP hW hS p2O99 in_X1 tyX1 tyX1_ok nmX1 rfl 1 1 (by decide) rfl q156 rfl rfl (by decide +kernel) dX1_become_5 (fun H locs hW hS => ?_)
  refine lv_aload_n hx hb dX1_become_8 rfl (lv_at hl 0 rfl) ?_
  refine lv_aload_n hx hb dX1_become_9 rfl (lv_at hl 1 rfl) ?_
  refine x_get (v := .int (I 104)) hx hb hts hown hK hW p2O199 in_X1 rfl 4 (by decide) q166 rfl rfl dX1_become_10 ?_
  refine x_putI hx hb hts hown hK p2wf hAP hW hS p2O99 in_X1 tyX1 tyX1_ok nmX1 rfl 4 4 (by decide) rfl q166 rfl rfl (by decide +kernel) dX1_become_13 (fun H locs hW hS => ?_)
  refine lv_aload_n hx hb dX1_become_16 rfl (lv_at hl 0 rfl) ?_
  refine lv_aload_n hx hb dX1_become_17 rfl (lv_at hl 1 rfl) ?_
  refine x_get (v := .int ((upd I 4 (I 104)) 110)) hx hb hts hown hK hW p2O199 in_X1 rfl 10 (by decide) q179 rfl rfl dX1_become_18 ?_
  refine x_putI hx hb hts hown hK p2wf hAP hW hS p2O99 in_X1 tyX1 tyX1_ok nmX1 rfl 10 10 (by decide) rfl q179 rfl rfl (by decide +kernel) dX1_become_21 (fun H locs hW hS => ?_)
  refine lv_aload_n hx hb dX1_become_24 rfl (lv_at hl 0 rfl) ?_
  refine lv_aload_n hx hb dX1_become_25 rfl (lv_at hl 1 rfl) ?_
  refine x_get (v := .int ((upd (upd I 4 (I 104)) 10 ((upd I 4 (I 104)) 110)) 111)) hx hb hts hown hK hW p2O199 in_X1 rfl 11 (by decide) q181 rfl rfl dX1_become_26 ?_
  refine x_putI hx hb hts hown hK p2wf hAP hW hS p2O99 in_X1 tyX1 tyX1_ok nmX1 rfl 11 11 (by decide) rfl q181 rfl rfl (by decide +kernel) dX1_become_29 (fun H locs hW hS => ?_)
  refine lv_aload_n hx hb dX1_become_32 rfl (lv_at hl 1 rfl) ?_
  refine x_get (v := .ref (ad 100)) hx hb hts hown hK hW p2O199 in_X1 rfl 0 (by decide) q153 rfl rfl dX1_become_33 ?_
  refine lv_iconst (v := 0) hx hb dX1_become_36 (by decide) ?_
  refine lv_aload_n hx hb dX1_become_37 rfl (lv_at hl 0 rfl) ?_
  refine x_get (v := .ref (ad 0)) hx hb hts hown hK hW p2O99 in_X1 rfl 0 (by decide) q153 rfl rfl dX1_become_38 ?_
  refine lv_iconst (v := 0) hx hb dX1_become_41 (by decide) ?_
  refine lv_bipush (v := 6) hx hb dX1_become_42 (by decide) ?_
  obtain ⟨f1, hf1, hf⟩ := ob1_e hf
  refine x_copyi hx hb hml hl.1 hts hown q746 hK p2wf hAP hW hS p2A100 p2A0 hf1 (Nat.le_trans (Nat.le_of_ble_eq_true rfl) hRf) (Nat.le_trans (Nat.le_of_ble_eq_true rfl) hRl) dX1_become_44 (fun H locs hW hS => ?_)
  refine lv_aload_n hx hb dX1_become_47 rfl (lv_at hl 1 rfl) ?_
  refine x_get (v := .ref (ad 102)) hx hb hts hown hK hW p2O199 in_X1 rfl 2 (by decide) q159 rfl rfl dX1_become_48 ?_
  refine lv_iconst (v := 0) hx hb dX1_become_51 (by decide) ?_
  refine lv_aload_n hx hb dX1_become_52 rfl (lv_at hl 0 rfl) ?_
  refine x_get (v := .ref (ad 2)) hx hb hts hown hK hW p2O99 in_X1 rfl 2 (by decide) q159 rfl rfl dX1_become_53 ?_
  refine lv_iconst (v := 0) hx hb dX1_become_56 (by decide) ?_
  refine lv_iconst (v := 5) hx hb dX1_become_57 (by decide) ?_
  obtain ⟨f2, hf2, hf⟩ := ob1_e hf
  refine x_copyi hx hb hml hl.1 hts hown q746 hK p2wf hAP hW hS p2A102 p2A2 hf2 (Nat.le_trans (Nat.le_of_ble_eq_true rfl) hRf) (Nat.le_trans (Nat.le_of_ble_eq_true rfl) hRl) dX1_become_58 (fun H locs hW hS => ?_)
  refine lv_aload_n hx hb dX1_become_61 rfl (lv_at hl 1 rfl) ?_
  refine x_get (v := .ref (ad 103)) hx hb hts hown hK hW p2O199 in_X1 rfl 3 (by decide) q163 rfl rfl dX1_become_62 ?_
  refine lv_iconst (v := 0) hx hb dX1_become_65 (by decide) ?_
  refine lv_aload_n hx hb dX1_become_66 rfl (lv_at hl 0 rfl) ?_
  refine x_get (v := .ref (ad 3)) hx hb hts hown hK hW p2O99 in_X1 rfl 3 (by decide) q163 rfl rfl dX1_become_67 ?_
  refine lv_iconst (v := 0) hx hb dX1_become_70 (by decide) ?_
  refine lv_iconst (v := 5) hx hb dX1_become_71 (by decide) ?_
  obtain ⟨f3, hf3, hf⟩ := ob1_e hf
  refine x_copyi hx hb hml hl.1 hts hown q746 hK p2wf hAP hW hS p2A103 p2A3 hf3 (Nat.le_trans (Nat.le_of_ble_eq_true rfl) hRf) (Nat.le_trans (Nat.le_of_ble_eq_true rfl) hRl) dX1_become_72 (fun H locs hW hS => ?_)
  refine lv_aload_n hx hb dX1_become_75 rfl (lv_at hl 1 rfl) ?_
  refine x_get (v := .ref (ad 105)) hx hb hts hown hK hW p2O199 in_X1 rfl 5 (by decide) q169 rfl rfl dX1_become_76 ?_
  refine lv_iconst (v := 0) hx hb dX1_become_79 (by decide) ?_
  refine lv_aload_n hx hb dX1_become_80 rfl (lv_at hl 0 rfl) ?_
  refine x_get (v := .ref (ad 5)) hx hb hts hown hK hW p2O99 in_X1 rfl 5 (by decide) q169 rfl rfl dX1_become_81 ?_
  refine lv_iconst (v := 0) hx hb dX1_become_84 (by decide) ?_
  refine lv_bipush (v := 8) hx hb dX1_become_85 (by decide) ?_
  obtain ⟨f4, hf4, hf⟩ := ob1_e hf
  refine x_copyi hx hb hml hl.1 hts hown q746 hK p2wf hAP hW hS p2A105 p2A5 hf4 (Nat.le_trans (Nat.le_of_ble_eq_true rfl) hRf) (Nat.le_trans (Nat.le_of_ble_eq_true rfl) hRl) dX1_become_87 (fun H locs hW hS => ?_)
  refine lv_aload_n hx hb dX1_become_90 rfl (lv_at hl 1 rfl) ?_
  refine x_get (v := .ref (ad 106)) hx hb hts hown hK hW p2O199 in_X1 rfl 6 (by decide) q171 rfl rfl dX1_become_91 ?_
  refine lv_iconst (v := 0) hx hb dX1_become_94 (by decide) ?_
  refine lv_aload_n hx hb dX1_become_95 rfl (lv_at hl 0 rfl) ?_
  refine x_get (v := .ref (ad 6)) hx hb hts hown hK hW p2O99 in_X1 rfl 6 (by decide) q171 rfl rfl dX1_become_96 ?_
  refine lv_iconst (v := 0) hx hb dX1_become_99 (by decide) ?_
  refine lv_bipush (v := 8) hx hb dX1_become_100 (by decide) ?_
  obtain ⟨f5, hf5, hf⟩ := ob1_e hf
  refine x_copyi hx hb hml hl.1 hts hown q746 hK p2wf hAP hW hS p2A106 p2A6 hf5 (Nat.le_trans (Nat.le_of_ble_eq_true rfl) hRf) (Nat.le_trans (Nat.le_of_ble_eq_true rfl) hRl) dX1_become_102 (fun H locs hW hS => ?_)
  refine lv_aload_n hx hb dX1_become_105 rfl (lv_at hl 1 rfl) ?_
  refine x_get (v := .ref (ad 107)) hx hb hts hown hK hW p2O199 in_X1 rfl 7 (by decide) q173 rfl rfl dX1_become_106 ?_
  refine lv_iconst (v := 0) hx hb dX1_become_109 (by decide) ?_
  refine lv_aload_n hx hb dX1_become_110 rfl (lv_at hl 0 rfl) ?_
  refine x_get (v := .ref (ad 7)) hx hb hts hown hK hW p2O99 in_X1 rfl 7 (by decide) q173 rfl rfl dX1_become_111 ?_
  refine lv_iconst (v := 0) hx hb dX1_become_114 (by decide) ?_
  refine lv_bipush (v := 8) hx hb dX1_become_115 (by decide) ?_
  obtain ⟨f6, hf6, hf⟩ := ob1_e hf
  refine x_copyi hx hb hml hl.1 hts hown q746 hK p2wf hAP hW hS p2A107 p2A7 hf6 (Nat.le_trans (Nat.le_of_ble_eq_true rfl) hRf) (Nat.le_trans (Nat.le_of_ble_eq_true rfl) hRl) dX1_become_117 (fun H locs hW hS => ?_)
  refine lv_aload_n hx hb dX1_become_120 rfl (lv_at hl 1 rfl) ?_
  refine x_get (v := .ref (ad 108)) hx hb hts hown hK hW p2O199 in_X1 rfl 8 (by decide) q175 rfl rfl dX1_become_121 ?_
  refine lv_iconst (v := 0) hx hb dX1_become_124 (by decide) ?_
  refine lv_aload_n hx hb dX1_become_125 rfl (lv_at hl 0 rfl) ?_
  refine x_get (v := .ref (ad 8)) hx hb hts hown hK hW p2O99 in_X1 rfl 8 (by decide) q175 rfl rfl dX1_become_126 ?_
  refine lv_iconst (v := 0) hx hb dX1_become_129 (by decide) ?_
  refine lv_bipush (v := 8) hx hb dX1_become_130 (by decide) ?_
  obtain ⟨f7, hf7, hf⟩ := ob1_e hf
  refine x_copyi hx hb hml hl.1 hts hown q746 hK p2wf hAP hW hS p2A108 p2A8 hf7 (Nat.le_trans (Nat.le_of_ble_eq_true rfl) hRf) (Nat.le_trans (Nat.le_of_ble_eq_true rfl) hRl) dX1_become_132 (fun H locs hW hS => ?_)
  refine lv_aload_n hx hb dX1_become_135 rfl (lv_at hl 1 rfl) ?_
  refine x_get (v := .ref (ad 109)) hx hb hts hown hK hW p2O199 in_X1 rfl 9 (by decide) q177 rfl rfl dX1_become_136 ?_
  refine lv_iconst (v := 0) hx hb dX1_become_139 (by decide) ?_
  refine lv_aload_n hx hb dX1_become_140 rfl (lv_at hl 0 rfl) ?_
  refine x_get (v := .ref (ad 9)) hx hb hts hown hK hW p2O99 in_X1 rfl 9 (by decide) q177 rfl rfl dX1_become_141 ?_
  refine lv_iconst (v := 0) hx hb dX1_become_144 (by decide) ?_
  refine lv_bipush (v := 8) hx hb dX1_become_145 (by decide) ?_
  obtain ⟨f8, hf8, hf⟩ := ob1_e hf
  refine x_copyi hx hb hml hl.1 hts hown q746 hK p2wf hAP hW hS p2A109 p2A9 hf8 (Nat.le_trans (Nat.le_of_ble_eq_true rfl) hRf) (Nat.le_trans (Nat.le_of_ble_eq_true rfl) hRl) dX1_become_147 (fun H locs hW hS => ?_)
  refine lv_aload_n hx hb dX1_become_150 rfl (lv_at hl 0 rfl) ?_
  obtain ⟨rfl, rfl, rfl⟩ := so3 hf
  exact W.aret hx hb hr (Or.inl ⟨_, rfl⟩) (Or.inr ⟨_, rfl⟩) (fun t ht _ => ⟨rfl, by rw [ht]; exact hW, hS.F ht⟩) hS.2.2 dX1_become_151
theorem p_become_ds : yX1_become.cls = RX1 ∧ yX1_become.cls ≠ "java/lang/invoke/MethodHandle" ∧ yX1_become.cls ≠ "java/lang/invoke/VarHandle" ∧ (parseMethodDescriptor yX1_become.desc).map (fun d => d.parameters.length) = some 1 := by decide +kernel
