/-! ask -/
def t_size (kd : Nat) (I : Nat → Int32) (A : Nat → Nat → Int32) (R : Nat → Option Nat) (pl n : Nat) (ks : Nat → Nat) (z : Int32) : Option (Int32 × (Nat → Int32) × (Nat → Nat → Int32)) := if kd = 1 then t9g_size I A R nG pl n ks z else if kd = 2 then t10c_size I A R nG pl n ks z else if kd = 3 then t11g_size I A R nG pl n ks z else if kd = 4 then t12h_size I A R nG pl n ks z else t13i_size I A R nG pl n ks z
set_option maxRecDepth 100000 in
set_option maxHeartbeats 4000000 in
theorem pt_size {p : Program} {l : Launch} {e : Env} {R0 : Room} {s : State} {m : MethodId} {args : Array Value} {below : List Frame} {meth : Method} {c : Code} {H : Heap} {locs : List Loc} {cells slots : Nat} {Q : State → Prop} {cc : ByteArray} {pc nL : Nat} {ls : Array Slot} {rest : List Value} {D : dd_} {s0 : State} {ad : Nat → Nat} {I : Nat → Int32} {A : Nat → Nat → Int32} {R : Nat → Option Nat} {G : Nat → Nat → Option Nat} {X : va_W} {base : Nat} {own : Nat → Nat} {af : Nat → Nat → Nat} {ra : Nat → Nat × Nat} {ta : Nat × Nat} {P : Nat → Option Par} {N : Nat → Option Rw_} {T : Int32 × (Nat → Int32)} {pl n : Nat} {ks : Nat → Nat} {Y : va_W} {b kd : Nat} {z : Int32} (hx : p.tables.exec = Jvm.exec) (hb : c.code = cc) (hml : c.maxLocals = nL) (hown : s.vm.findClass RX0 = some m.cls) (hts : ∀ w ∈ lw_all, w.before args s = true) (hK : Kx D s) (hY : s0.WarmedH s.vm) (h0 : ∀ w ∈ lw_tbl, va_Nw w s0) (hDW : DW s0) (hRf : 10 ≤ R0.frames) (hRl : 228 ≤ R0.locals) (hcs : cells ≤ R0.cells ∧ slots ≤ R0.slots) (hB : base ≤ H.size) (hF : XF D own af ra ta (P, N, T, (pl, n, ks), Y) R G X) (hAP : AP xS ad X base) (hW : WX D xS ad I A R G X H) (hS : va_S (upB base) s.heap H locs) (hm : (b, Sum.inr (7 + kd, [.int z])) ∈ X) (h1 : 1 ≤ kd) (h5 : kd ≤ 5) {v : Int32} {I1 : Nat → Int32} {A1 : Nat → Nat → Int32} {R2 : Nat → Option Nat} (h2 : R 201 = R2 201) (h : t_size kd (tI I T) (tA A T) R2 pl n ks z = some (v, I1, A1)) (hls : ls.size = nL) (hr : (rest.map fun v => v.category).sum ≤ 8) (hdg : decode cc pc = .ok (.invokevirtual 362, 3)) (kk : ∀ (H1 : Heap) (locs1 : List Loc) (X1 : va_W), XF D own af ra ta (P, N, (I1 101, A1 100), (pl, n, ks), Y) R G X1 → AP xS ad X1 base → WX D xS ad (mgt I I1) (mgt A A1) R G X1 H1 → va_S (upB base) s.heap H1 locs1 → W p l e R0 s m args below meth c H1 locs1 cells slots Q (F0 m (pc + 3) ls (.int v :: rest))) : W p l e R0 s m args below meth c H locs cells slots Q (F0 m pc ls (.ref (ad 299) :: .ref ta.1 :: .ref b :: rest)) := by
  have hc : kd = 1 ∨ kd = 2 ∨ kd = 3 ∨ kd = 4 ∨ kd = 5 := by omega
  have hm2 := t_per (I := I) (A := A) hF hAP hm h1
  have hRt := t_reg (I := I) (A := A) hF hAP
  obtain ⟨hAPt, hWt⟩ := t_go hF hAP hW
  rcases hc with rfl | rfl | rfl | rfl | rfl
  · refine x_uW (ov := some (.int v)) (D := D) (s0 := s0) (Sc := tS) (adc := tad ad ta) (Ic := tI I T) (Ac := tA A T) (Rc := R2) (Gc := nG) (Xc := tX D ad ta I A R G X) (base := base) (As := [.ref (tad ad ta 199), .ref (tad ad ta 299)]) (rest := rest) (Ic1 := I1) (Ac1 := A1) (Rc1 := R2) (Gc1 := nG) (Xc1 := tX D ad ta I A R G X) (b := b) (C := RX9) ⟨hx, hb, hml, hown, hts⟩ (t9g_size_met l D s0 h0 (tad ad ta) (tX D ad ta I A R G X) base hAPt (tI I T) (tA A T) R2 nG pl n ks z hRt hDW b hm2 v I1 A1 h) (va_cwO (owner := RX8) 2 hts (lw_O q1111 q1113 q1112 q1176 q1122 q98 q1123) rfl rfl rfl q1183 (by decide +kernel) ⟨Nat.le_trans (Nat.le_of_ble_eq_true rfl) hRf, Nat.le_trans (Nat.le_of_ble_eq_true rfl) hRl⟩) (x_recvD (ci := 8) hK hW hm rfl) hK hY hB (wx_tR h2 hWt) hS hcs rfl hls rfl hr hdg (fun H1 locs1 hW1 hS1 => ?_)
    obtain ⟨X1, hF1, hAP1, hW2⟩ := t_back hF hAP hW (wx_tR h2.symm hW1)
    exact kk H1 locs1 X1 hF1 hAP1 hW2 hS1
  · refine x_uW (ov := some (.int v)) (D := D) (s0 := s0) (Sc := tS) (adc := tad ad ta) (Ic := tI I T) (Ac := tA A T) (Rc := R2) (Gc := nG) (Xc := tX D ad ta I A R G X) (base := base) (As := [.ref (tad ad ta 199), .ref (tad ad ta 299)]) (rest := rest) (Ic1 := I1) (Ac1 := A1) (Rc1 := R2) (Gc1 := nG) (Xc1 := tX D ad ta I A R G X) (b := b) (C := RX10) ⟨hx, hb, hml, hown, hts⟩ (t10c_size_met l D s0 h0 (tad ad ta) (tX D ad ta I A R G X) base hAPt (tI I T) (tA A T) R2 nG pl n ks z hRt hDW b hm2 v I1 A1 h) (va_cwO (owner := RX8) 2 hts (lw_O q1111 q1113 q1112 q1114 q1115 q99 q1116) rfl rfl rfl q1183 (by decide +kernel) ⟨Nat.le_trans (Nat.le_of_ble_eq_true rfl) hRf, Nat.le_trans (Nat.le_of_ble_eq_true rfl) hRl⟩) (x_recvD (ci := 9) hK hW hm rfl) hK hY hB (wx_tR h2 hWt) hS hcs rfl hls rfl hr hdg (fun H1 locs1 hW1 hS1 => ?_)
    obtain ⟨X1, hF1, hAP1, hW2⟩ := t_back hF hAP hW (wx_tR h2.symm hW1)
    exact kk H1 locs1 X1 hF1 hAP1 hW2 hS1
  · refine x_uW (ov := some (.int v)) (D := D) (s0 := s0) (Sc := tS) (adc := tad ad ta) (Ic := tI I T) (Ac := tA A T) (Rc := R2) (Gc := nG) (Xc := tX D ad ta I A R G X) (base := base) (As := [.ref (tad ad ta 199), .ref (tad ad ta 299)]) (rest := rest) (Ic1 := I1) (Ac1 := A1) (Rc1 := R2) (Gc1 := nG) (Xc1 := tX D ad ta I A R G X) (b := b) (C := RX11) ⟨hx, hb, hml, hown, hts⟩ (t11g_size_met l D s0 h0 (tad ad ta) (tX D ad ta I A R G X) base hAPt (tI I T) (tA A T) R2 nG pl n ks z hRt hDW b hm2 v I1 A1 h) (va_cwO (owner := RX8) 2 hts (lw_O q1111 q1113 q1112 q1182 q1122 q98 q1123) rfl rfl rfl q1183 (by decide +kernel) ⟨Nat.le_trans (Nat.le_of_ble_eq_true rfl) hRf, Nat.le_trans (Nat.le_of_ble_eq_true rfl) hRl⟩) (x_recvD (ci := 10) hK hW hm rfl) hK hY hB (wx_tR h2 hWt) hS hcs rfl hls rfl hr hdg (fun H1 locs1 hW1 hS1 => ?_)
    obtain ⟨X1, hF1, hAP1, hW2⟩ := t_back hF hAP hW (wx_tR h2.symm hW1)
    exact kk H1 locs1 X1 hF1 hAP1 hW2 hS1
  · refine x_uW (ov := some (.int v)) (D := D) (s0 := s0) (Sc := tS) (adc := tad ad ta) (Ic := tI I T) (Ac := tA A T) (Rc := R2) (Gc := nG) (Xc := tX D ad ta I A R G X) (base := base) (As := [.ref (tad ad ta 199), .ref (tad ad ta 299)]) (rest := rest) (Ic1 := I1) (Ac1 := A1) (Rc1 := R2) (Gc1 := nG) (Xc1 := tX D ad ta I A R G X) (b := b) (C := RX12) ⟨hx, hb, hml, hown, hts⟩ (t12h_size_met l D s0 h0 (tad ad ta) (tX D ad ta I A R G X) base hAPt (tI I T) (tA A T) R2 nG pl n ks z hRt hDW b hm2 v I1 A1 h) (va_cwO (owner := RX8) 2 hts (lw_O q1111 q1113 q1112 q1171 q1172 q101 q1173) rfl rfl rfl q1183 (by decide +kernel) ⟨Nat.le_trans (Nat.le_of_ble_eq_true rfl) hRf, Nat.le_trans (Nat.le_of_ble_eq_true rfl) hRl⟩) (x_recvD (ci := 11) hK hW hm rfl) hK hY hB (wx_tR h2 hWt) hS hcs rfl hls rfl hr hdg (fun H1 locs1 hW1 hS1 => ?_)
    obtain ⟨X1, hF1, hAP1, hW2⟩ := t_back hF hAP hW (wx_tR h2.symm hW1)
    exact kk H1 locs1 X1 hF1 hAP1 hW2 hS1
  · refine x_uW (ov := some (.int v)) (D := D) (s0 := s0) (Sc := tS) (adc := tad ad ta) (Ic := tI I T) (Ac := tA A T) (Rc := R2) (Gc := nG) (Xc := tX D ad ta I A R G X) (base := base) (As := [.ref (tad ad ta 199), .ref (tad ad ta 299)]) (rest := rest) (Ic1 := I1) (Ac1 := A1) (Rc1 := R2) (Gc1 := nG) (Xc1 := tX D ad ta I A R G X) (b := b) (C := RX13) ⟨hx, hb, hml, hown, hts⟩ (t13i_size_met l D s0 h0 (tad ad ta) (tX D ad ta I A R G X) base hAPt (tI I T) (tA A T) R2 nG pl n ks z hRt hDW b hm2 v I1 A1 h) (va_cwO (owner := RX8) 2 hts (lw_O q1111 q1113 q1112 q1177 q1178 q102 q1179) rfl rfl rfl q1183 (by decide +kernel) ⟨Nat.le_trans (Nat.le_of_ble_eq_true rfl) hRf, Nat.le_trans (Nat.le_of_ble_eq_true rfl) hRl⟩) (x_recvD (ci := 12) hK hW hm rfl) hK hY hB (wx_tR h2 hWt) hS hcs rfl hls rfl hr hdg (fun H1 locs1 hW1 hS1 => ?_)
    obtain ⟨X1, hF1, hAP1, hW2⟩ := t_back hF hAP hW (wx_tR h2.symm hW1)
    exact kk H1 locs1 X1 hF1 hAP1 hW2 hS1
def t_mark (kd : Nat) (I : Nat → Int32) (A : Nat → Nat → Int32) (R : Nat → Option Nat) (pl n : Nat) (ks : Nat → Nat) (z : Int32) : Option (Int32 × (Nat → Int32) × (Nat → Nat → Int32)) := if kd = 1 then t9g_mark I A R nG pl n ks z else if kd = 2 then t10c_mark I A R nG pl n ks z else if kd = 3 then t11l_mark I A R nG pl n ks z else if kd = 4 then t12h_mark I A R nG pl n ks z else t13h_mark I A R nG pl n ks z
set_option maxRecDepth 100000 in
set_option maxHeartbeats 4000000 in
theorem pt_mark {p : Program} {l : Launch} {e : Env} {R0 : Room} {s : State} {m : MethodId} {args : Array Value} {below : List Frame} {meth : Method} {c : Code} {H : Heap} {locs : List Loc} {cells slots : Nat} {Q : State → Prop} {cc : ByteArray} {pc nL : Nat} {ls : Array Slot} {rest : List Value} {D : dd_} {s0 : State} {ad : Nat → Nat} {I : Nat → Int32} {A : Nat → Nat → Int32} {R : Nat → Option Nat} {G : Nat → Nat → Option Nat} {X : va_W} {base : Nat} {own : Nat → Nat} {af : Nat → Nat → Nat} {ra : Nat → Nat × Nat} {ta : Nat × Nat} {P : Nat → Option Par} {N : Nat → Option Rw_} {T : Int32 × (Nat → Int32)} {pl n : Nat} {ks : Nat → Nat} {Y : va_W} {b kd : Nat} {z : Int32} (hx : p.tables.exec = Jvm.exec) (hb : c.code = cc) (hml : c.maxLocals = nL) (hown : s.vm.findClass RX0 = some m.cls) (hts : ∀ w ∈ lw_all, w.before args s = true) (hK : Kx D s) (hY : s0.WarmedH s.vm) (h0 : ∀ w ∈ lw_tbl, va_Nw w s0) (hDW : DW s0) (hRf : 11 ≤ R0.frames) (hRl : 250 ≤ R0.locals) (hcs : cells ≤ R0.cells ∧ slots ≤ R0.slots) (hB : base ≤ H.size) (hF : XF D own af ra ta (P, N, T, (pl, n, ks), Y) R G X) (hAP : AP xS ad X base) (hW : WX D xS ad I A R G X H) (hS : va_S (upB base) s.heap H locs) (hm : (b, Sum.inr (7 + kd, [.int z])) ∈ X) (h1 : 1 ≤ kd) (h5 : kd ≤ 5) {v : Int32} {I1 : Nat → Int32} {A1 : Nat → Nat → Int32} {R2 : Nat → Option Nat} (h2 : R 201 = R2 201) (h : t_mark kd (tI I T) (tA A T) R2 pl n ks z = some (v, I1, A1)) (hls : ls.size = nL) (hr : (rest.map fun v => v.category).sum ≤ 8) (hdg : decode cc pc = .ok (.invokevirtual 366, 3)) (kk : ∀ (H1 : Heap) (locs1 : List Loc) (X1 : va_W), XF D own af ra ta (P, N, (I1 101, A1 100), (pl, n, ks), Y) R G X1 → AP xS ad X1 base → WX D xS ad (mgt I I1) (mgt A A1) R G X1 H1 → va_S (upB base) s.heap H1 locs1 → W p l e R0 s m args below meth c H1 locs1 cells slots Q (F0 m (pc + 3) ls (.int v :: rest))) : W p l e R0 s m args below meth c H locs cells slots Q (F0 m pc ls (.ref (ad 299) :: .ref ta.1 :: .ref b :: rest)) := by
  have hc : kd = 1 ∨ kd = 2 ∨ kd = 3 ∨ kd = 4 ∨ kd = 5 := by omega
  have hm2 := t_per (I := I) (A := A) hF hAP hm h1
  have hRt := t_reg (I := I) (A := A) hF hAP
  obtain ⟨hAPt, hWt⟩ := t_go hF hAP hW
  rcases hc with rfl | rfl | rfl | rfl | rfl
  · refine x_uW (owner := "PromisePounds$Marked") (x := mkP) (ov := some (.int v)) (D := D) (s0 := s0) (Sc := tS) (adc := tad ad ta) (Ic := tI I T) (Ac := tA A T) (Rc := R2) (Gc := nG) (Xc := tX D ad ta I A R G X) (base := base) (As := [.ref (tad ad ta 199), .ref (tad ad ta 299)]) (rest := rest) (Ic1 := I1) (Ac1 := A1) (Rc1 := R2) (Gc1 := nG) (Xc1 := tX D ad ta I A R G X) (b := b) (C := RX9) ⟨hx, hb, hml, hown, hts⟩ (t9g_mark_met l D s0 h0 (tad ad ta) (tX D ad ta I A R G X) base hAPt (tI I T) (tA A T) R2 nG pl n ks z hRt hDW b hm2 v I1 A1 h) (va_cwAD (own := RX0) (index := 366) (owner := "PromisePounds$Marked") (x := mkP) 2 hts (lw_meth q1139) rfl rfl rfl (hDW.at hY).2.2.1 (hDW.at hY).2.2.2.1 q1191 q1127 q98 (va_Nw.warmD hY (h0 _ q1141)) (by decide +kernel) ⟨Nat.le_trans (Nat.le_of_ble_eq_true rfl) hRf, Nat.le_trans (Nat.le_of_ble_eq_true rfl) hRl⟩) (x_recvD (ci := 8) hK hW hm rfl) hK hY hB (wx_tR h2 hWt) hS hcs rfl hls rfl hr hdg (fun H1 locs1 hW1 hS1 => ?_)
    obtain ⟨X1, hF1, hAP1, hW2⟩ := t_back hF hAP hW (wx_tR h2.symm hW1)
    exact kk H1 locs1 X1 hF1 hAP1 hW2 hS1
  · refine x_uW (owner := "PromisePounds$Marked") (x := mkP) (ov := some (.int v)) (D := D) (s0 := s0) (Sc := tS) (adc := tad ad ta) (Ic := tI I T) (Ac := tA A T) (Rc := R2) (Gc := nG) (Xc := tX D ad ta I A R G X) (base := base) (As := [.ref (tad ad ta 199), .ref (tad ad ta 299)]) (rest := rest) (Ic1 := I1) (Ac1 := A1) (Rc1 := R2) (Gc1 := nG) (Xc1 := tX D ad ta I A R G X) (b := b) (C := RX10) ⟨hx, hb, hml, hown, hts⟩ (t10c_mark_met l D s0 h0 (tad ad ta) (tX D ad ta I A R G X) base hAPt (tI I T) (tA A T) R2 nG pl n ks z hRt hDW b hm2 v I1 A1 h) (va_cwAD (own := RX0) (index := 366) (owner := "PromisePounds$Marked") (x := mkP) 2 hts (lw_meth q1132) rfl rfl rfl (hDW.at hY).2.2.1 (hDW.at hY).2.2.2.1 q1186 q1131 q99 (va_Nw.warmD hY (h0 _ q1141)) (by decide +kernel) ⟨Nat.le_trans (Nat.le_of_ble_eq_true rfl) hRf, Nat.le_trans (Nat.le_of_ble_eq_true rfl) hRl⟩) (x_recvD (ci := 9) hK hW hm rfl) hK hY hB (wx_tR h2 hWt) hS hcs rfl hls rfl hr hdg (fun H1 locs1 hW1 hS1 => ?_)
    obtain ⟨X1, hF1, hAP1, hW2⟩ := t_back hF hAP hW (wx_tR h2.symm hW1)
    exact kk H1 locs1 X1 hF1 hAP1 hW2 hS1
  · refine x_uW (owner := "PromisePounds$Marked") (x := mkP) (ov := some (.int v)) (D := D) (s0 := s0) (Sc := tS) (adc := tad ad ta) (Ic := tI I T) (Ac := tA A T) (Rc := R2) (Gc := nG) (Xc := tX D ad ta I A R G X) (base := base) (As := [.ref (tad ad ta 199), .ref (tad ad ta 299)]) (rest := rest) (Ic1 := I1) (Ac1 := A1) (Rc1 := R2) (Gc1 := nG) (Xc1 := tX D ad ta I A R G X) (b := b) (C := RX11) ⟨hx, hb, hml, hown, hts⟩ (t11l_mark_met l D s0 h0 (tad ad ta) (tX D ad ta I A R G X) base hAPt (tI I T) (tA A T) R2 nG pl n ks z hRt hDW b hm2 v I1 A1 h) (va_cwAD (own := RX0) (index := 366) (owner := "PromisePounds$Marked") (x := mkP) 2 hts (lw_meth q1136) rfl rfl rfl (hDW.at hY).2.2.1 (hDW.at hY).2.2.2.1 q1193 q1135 q100 (va_Nw.warmD hY (h0 _ q1141)) (by decide +kernel) ⟨Nat.le_trans (Nat.le_of_ble_eq_true rfl) hRf, Nat.le_trans (Nat.le_of_ble_eq_true rfl) hRl⟩) (x_recvD (ci := 10) hK hW hm rfl) hK hY hB (wx_tR h2 hWt) hS hcs rfl hls rfl hr hdg (fun H1 locs1 hW1 hS1 => ?_)
    obtain ⟨X1, hF1, hAP1, hW2⟩ := t_back hF hAP hW (wx_tR h2.symm hW1)
    exact kk H1 locs1 X1 hF1 hAP1 hW2 hS1
  · refine x_uW (owner := "PromisePounds$Marked") (x := mkP) (ov := some (.int v)) (D := D) (s0 := s0) (Sc := tS) (adc := tad ad ta) (Ic := tI I T) (Ac := tA A T) (Rc := R2) (Gc := nG) (Xc := tX D ad ta I A R G X) (base := base) (As := [.ref (tad ad ta 199), .ref (tad ad ta 299)]) (rest := rest) (Ic1 := I1) (Ac1 := A1) (Rc1 := R2) (Gc1 := nG) (Xc1 := tX D ad ta I A R G X) (b := b) (C := RX12) ⟨hx, hb, hml, hown, hts⟩ (t12h_mark_met l D s0 h0 (tad ad ta) (tX D ad ta I A R G X) base hAPt (tI I T) (tA A T) R2 nG pl n ks z hRt hDW b hm2 v I1 A1 h) (va_cwAD (own := RX0) (index := 366) (owner := "PromisePounds$Marked") (x := mkP) 2 hts (lw_meth q1189) rfl rfl rfl (hDW.at hY).2.2.1 (hDW.at hY).2.2.2.1 q1187 q1188 q101 (va_Nw.warmD hY (h0 _ q1141)) (by decide +kernel) ⟨Nat.le_trans (Nat.le_of_ble_eq_true rfl) hRf, Nat.le_trans (Nat.le_of_ble_eq_true rfl) hRl⟩) (x_recvD (ci := 11) hK hW hm rfl) hK hY hB (wx_tR h2 hWt) hS hcs rfl hls rfl hr hdg (fun H1 locs1 hW1 hS1 => ?_)
    obtain ⟨X1, hF1, hAP1, hW2⟩ := t_back hF hAP hW (wx_tR h2.symm hW1)
    exact kk H1 locs1 X1 hF1 hAP1 hW2 hS1
  · refine x_uW (owner := "PromisePounds$Marked") (x := mkP) (ov := some (.int v)) (D := D) (s0 := s0) (Sc := tS) (adc := tad ad ta) (Ic := tI I T) (Ac := tA A T) (Rc := R2) (Gc := nG) (Xc := tX D ad ta I A R G X) (base := base) (As := [.ref (tad ad ta 199), .ref (tad ad ta 299)]) (rest := rest) (Ic1 := I1) (Ac1 := A1) (Rc1 := R2) (Gc1 := nG) (Xc1 := tX D ad ta I A R G X) (b := b) (C := RX13) ⟨hx, hb, hml, hown, hts⟩ (t13h_mark_met l D s0 h0 (tad ad ta) (tX D ad ta I A R G X) base hAPt (tI I T) (tA A T) R2 nG pl n ks z hRt hDW b hm2 v I1 A1 h) (va_cwAD (own := RX0) (index := 366) (owner := "PromisePounds$Marked") (x := mkP) 2 hts (lw_meth q1189) rfl rfl rfl (hDW.at hY).2.2.1 (hDW.at hY).2.2.2.1 q1192 q1188 q101 (va_Nw.warmD hY (h0 _ q1141)) (by decide +kernel) ⟨Nat.le_trans (Nat.le_of_ble_eq_true rfl) hRf, Nat.le_trans (Nat.le_of_ble_eq_true rfl) hRl⟩) (x_recvD (ci := 12) hK hW hm rfl) hK hY hB (wx_tR h2 hWt) hS hcs rfl hls rfl hr hdg (fun H1 locs1 hW1 hS1 => ?_)
    obtain ⟨X1, hF1, hAP1, hW2⟩ := t_back hF hAP hW (wx_tR h2.symm hW1)
    exact kk H1 locs1 X1 hF1 hAP1 hW2 hS1
def h_ask (I : Nat → Int32) (A : Nat → Nat → Int32) (R : Nat → Option Nat) (P : Nat → Option Par) (N : Nat → Option Rw_) (T : Int32 × (Nat → Int32)) (pl n : Nat) (ks : Nat → Nat) (a0 : Int32) (a1 : Int32) : Option (Int32 × (Nat → Int32) × (Nat → Nat → Int32) × (Int32 × (Nat → Int32))) :=
  ob1 (x_isPerson I A R nG pl n ks a0) fun (v1 : Int32) =>
  if v1 = 0 then (some ((-1000001), I, A, T)) else (ob1 (x_isHalf a1) fun (v3 : Int32) =>
    if v3 = 0 then (some ((-1000001), I, A, T)) else (ob1 (pgO n a0) fun (j5 : Nat) =>
      if a1 = 0 then (ob3 (t_size (ks j5) (tI I (0, fun _ => 0)) (tA A (0, fun _ => 0)) R pl n ks (nI j5)) fun (v10 : Int32) (I11 : Nat → Int32) (A12 : Nat → Nat → Int32) =>
        some (v10, mgt I I11, mgt A A12, (I11 101, A12 100))) else (ob3 (t_mark (ks j5) (tI I (0, fun _ => 0)) (tA A (0, fun _ => 0)) R pl n ks (nI j5)) fun (v7 : Int32) (I8 : Nat → Int32) (A9 : Nat → Nat → Int32) =>
        some (v7, mgt I I8, mgt A A9, (I8 101, A9 100)))))
set_option maxRecDepth 100000 in
set_option maxHeartbeats 4000000 in
theorem h_ask_met (l : Launch) (D : dd_) (s0 : State) (h0 : ∀ w ∈ lw_tbl, va_Nw w s0) (ad : Nat → Nat) (base : Nat) (r1 r2 : Option Nat) (de : Nat) (hz : FZ base s0 r1 r2 de) (hDW : DW s0) (I : Nat → Int32) (A : Nat → Nat → Int32) (R : Nat → Option Nat) (P : Nat → Option Par) (N : Nat → Option Rw_) (T : Int32 × (Nat → Int32)) (pl n : Nat) (ks : Nat → Nat) (Y : va_W) (a0 : Int32) (a1 : Int32) (r : Int32) (I1 : (Nat → Int32)) (A1 : (Nat → Nat → Int32)) (T1 : (Int32 × (Nat → Int32))) (hf : h_ask I A R P N T pl n ks a0 a1 = some (r, I1, A1, T1)) : Met l yX0_ask (ws_ yX0_ask cX0_ask 4 (some .int)) ({ frames := 11, cells := 2, slots := 18, locals := 250 }) (PcH D s0 ad I A R (P, N, T, (pl, n, ks), Y) base [.ref (ad 199), .int a0, .int a1]) (QcE (fun H9 => ∃ x9 : Option Nat, HX D ad I1 A1 (va_up R 109 x9) (P, N, T1, (pl, n, ks), Y) base H9) base (some (.int r))) 2 18 (upB base) := by
  refine Met.ofW (cc := cX0_ask) (maxL := 4) (ret := (some .int)) (by decide) rfl ?_
  intro p e s m args below meth c s₁ B hml hv
  obtain ⟨rfl, hK, hY, hB0, hH, hq0⟩ := hv
  obtain ⟨G, X, own, af, ra, ta, hF, hAP, hW⟩ := hH
  have hR := hF.reg
  have hx := B.exec
  have hb := B.bytes
  have hr := B.returns
  have hts0 := atoms_spec (ws := (ws_ yX0_ask cX0_ask 4 (some .int))) B.pre
  have hts : ∀ w ∈ lw_all, w.before _ s = true := fun w h => hts0 w (List.mem_cons_of_mem _ h)
  have hown : s.vm.findClass RX0 = some m.cls := findClass_of_methodNamed B.named
  have hlocks := B.notSynchronized
  have hRf : 11 ≤ (headSpec (ws_ yX0_ask cX0_ask 4 (some .int)) ({ frames := 11, cells := 2, slots := 18, locals := 250 })).room.frames := Nat.le_refl _
  have hRl : 250 ≤ (headSpec (ws_ yX0_ask cX0_ask 4 (some .int)) ({ frames := 11, cells := 2, slots := 18, locals := 250 })).room.locals := Nat.le_refl _
  have hcs : 0 ≤ (headSpec (ws_ yX0_ask cX0_ask 4 (some .int)) ({ frames := 11, cells := 2, slots := 18, locals := 250 })).room.cells ∧ 0 ≤ (headSpec (ws_ yX0_ask cX0_ask 4 (some .int)) ({ frames := 11, cells := 2, slots := 18, locals := 250 })).room.slots := ⟨Nat.zero_le _, Nat.zero_le _⟩
  have hS : va_S (upB base) s.heap s.heap [] := va_S.rf
  have hl := lv_entry ([.ref (ad 199), .int a0, .int a1]) (n := 4) (Nat.le_of_ble_eq_true rfl)
  rw [lg_entry_eq]
  generalize (lg_sl ([.ref (ad 199), .int a0, .int a1]) ++ List.replicate (4 - (lg_sl ([.ref (ad 199), .int a0, .int a1])).length) Slot.unset).toArray = ls at hl ⊢
  have hl : lv_has ls 4 [(0, .ref (ad 199)), (1, .int a0), (2, .int a1)] := hl
  have hf : (ob1 (x_isPerson I A R nG pl n ks a0) fun (v1 : Int32) =>
    if v1 = 0 then (some ((-1000001), I, A, T)) else (ob1 (x_isHalf a1) fun (v3 : Int32) =>
      if v3 = 0 then (some ((-1000001), I, A, T)) else (ob1 (pgO n a0) fun (j5 : Nat) =>
        if a1 = 0 then (ob3 (t_size (ks j5) (tI I (0, fun _ => 0)) (tA A (0, fun _ => 0)) R pl n ks (nI j5)) fun (v10 : Int32) (I11 : Nat → Int32) (A12 : Nat → Nat → Int32) =>
          some (v10, mgt I I11, mgt A A12, (I11 101, A12 100))) else (ob3 (t_mark (ks j5) (tI I (0, fun _ => 0)) (tA A (0, fun _ => 0)) R pl n ks (nI j5)) fun (v7 : Int32) (I8 : Nat → Int32) (A9 : Nat → Nat → Int32) =>
          some (v7, mgt I I8, mgt A A9, (I8 101, A9 100)))))) = some (r, I1, A1, T1) := hf
  refine lv_aload_n hx hb dX0_ask_0 rfl (lv_at hl 0 rfl) ?_
  refine lv_iload_n hx hb dX0_ask_1 rfl (lv_at hl 1 rfl) ?_
  obtain ⟨v1, h1, hf⟩ := ob1_e hf
  refine x_vR (ov := some (.int v1)) (D := D) (s0 := s0) (Sc := xS) (adc := ad) (Ic := I) (Ac := A) (Rc := R) (Gc := G) (Xc := X) (base := base) (As := [.int a0]) (rest := []) (b := ad 199) (C := RX0) ⟨hx, hb, hml, hown, hts⟩ (x_isPerson_met l D s0 h0 ad X base I A R G pl n ks hR a0 v1 h1) (g_cwV 1 hts (lw_V q761 q763 qs18 q76 q764) rfl rfl x_isPerson_ds ⟨Nat.le_trans (Nat.le_of_ble_eq_true rfl) hRf, Nat.le_trans (Nat.le_of_ble_eq_true rfl) hRl⟩) (x_recv hK hW xO199 rfl) hK hY (Nat.le_trans hB0 hS.1) hW hcs rfl hl.1 rfl (Nat.le_of_ble_eq_true rfl) dX0_ask_2 ?_
  refine lv_if_eq (tgt := 15) hx hb dX0_ask_5 (by decide) (fun c2 => ?_) (fun c2 => ?_)
  · rw [if_pos c2] at hf
    refine lv_ldc (v := (-1000001)) hx hb hown (hts _ q289) dX0_ask_15 ?_
    obtain ⟨rfl, rfl, rfl, rfl⟩ := so4 hf
    refine w_more (cells' := 2) (slots' := 18) (Nat.le_of_ble_eq_true rfl) (Nat.le_of_ble_eq_true rfl) ?_
    exact W.iret hx hb hr (fun t ht _ => ⟨rfl, by rw [ht]; exact ⟨R 109, by rw [va_up_id]; exact ⟨G, X, own, af, ra, ta, hF, hAP, hW⟩⟩, hS.F ht⟩) hS.2.2 dX0_ask_17
  · rw [if_neg c2] at hf
    refine lv_iload_n hx hb dX0_ask_8 rfl (lv_at hl 2 rfl) ?_
    obtain ⟨v3, h3, hf⟩ := ob1_e hf
    refine x_sR (ov := some (.int v3)) (D := D) (s0 := s0) (Sc := nS) (adc := ad) (Ic := (fun _ => 0)) (Ac := (fun _ _ => 0)) (Rc := nR) (Gc := nG) (Xc := []) (base := base) (As := [.int a1]) (rest := []) ⟨hx, hb, hml, hown, hts⟩ (x_isHalf_met l D s0 h0 ad [] base a1 v3 h3) (va_cwS 1 hts (lw_S q910 q911 q76 q912) rfl rfl rfl x_isHalf_ds.2 ⟨Nat.le_trans (Nat.le_of_ble_eq_true rfl) hRf, Nat.le_trans (Nat.le_of_ble_eq_true rfl) hRl⟩) hK hY (Nat.le_trans hB0 hS.1) WX_nil hcs rfl hl.1 rfl (Nat.le_of_ble_eq_true rfl) dX0_ask_9 ?_
    refine lv_if_ne (tgt := 18) hx hb dX0_ask_12 (by decide) (fun c4 => ?_) (fun c4 => ?_)
    · rw [if_neg c4] at hf
      refine lv_aload_n hx hb dX0_ask_18 rfl (lv_at hl 0 rfl) ?_
      refine mk_trail hx hb hml hown hts hK hY h0 hz (Nat.le_trans (Nat.le_of_ble_eq_true rfl) hRf) (Nat.le_trans (Nat.le_of_ble_eq_true rfl) hRl) (Nat.le_of_ble_eq_true rfl) (Nat.le_of_ble_eq_true rfl) hq0 hB0 hF hAP hW hS hl.1 (Nat.le_of_ble_eq_true rfl) dX0_ask_19 dX0_ask_22 dX0_ask_23 dX0_ask_26 (fun H locs X own ta hF hAP hW hS => ?_)
      have hR := hF.reg
      refine w_more (cells' := 2) (slots' := 18) (by omega) (by omega) ?_
      have hcs : 2 ≤ (headSpec (ws_ yX0_ask cX0_ask 4 (some .int)) ({ frames := 11, cells := 2, slots := 18, locals := 250 })).room.cells ∧ 18 ≤ (headSpec (ws_ yX0_ask cX0_ask 4 (some .int)) ({ frames := 11, cells := 2, slots := 18, locals := 250 })).room.slots := ⟨Nat.le_of_ble_eq_true rfl, Nat.le_of_ble_eq_true rfl⟩
      refine lv_aload_n hx hb dX0_ask_29 rfl (lv_at hl 0 rfl) ?_
      refine x_get (v := .ref (ad 299)) hx hb hts hown hK hW xO199 in_X0 rfl 4 (by decide) q228 rfl rfl dX0_ask_30 ?_
      refine x_get (v := .ref pl) hx hb hts hown hK hW xO299 in_X1 rfl 1 (by decide) q158 rfl (congrArg (fun z => some (va_rf z)) hF.2.2.2.2.1) dX0_ask_33 ?_
      refine lv_iload_n hx hb dX0_ask_36 rfl (lv_at hl 1 rfl) ?_
      obtain ⟨j5, hj5, hf⟩ := ob1_e hf
      refine pe_get_X0 hx hb hml hown hts hK hY h0 (Nat.le_trans (Nat.le_of_ble_eq_true rfl) hRf) (Nat.le_trans (Nat.le_of_ble_eq_true rfl) hRl) hcs (Nat.le_trans hB0 hS.1) hW hR hj5 hl.1 (Nat.le_of_ble_eq_true rfl) dX0_ask_37 (fun paj5 hmpaj5 h1paj5 h5paj5 => ?_)
      refine pe_cast_X0 hx hb hown hts hK hY h0 hW hmpaj5 h1paj5 h5paj5 dX0_ask_42 ?_
      refine lv_astore_n (lv' := [(3, .ref paj5), (0, .ref (ad 199)), (1, .int a0), (2, .int a1)]) hx hb dX0_ask_45 rfl hl (by decide) rfl (fun ls hl => ?_)
      refine lv_iload_n hx hb dX0_ask_46 rfl (lv_at hl 3 rfl) ?_
      refine lv_if_ne (tgt := 65) hx hb dX0_ask_47 (by decide) (fun c6 => ?_) (fun c6 => ?_)
      · rw [if_neg c6] at hf
        refine lv_aload_n hx hb dX0_ask_65 rfl (lv_at hl 0 rfl) ?_
        refine lv_aload_n hx hb dX0_ask_66 rfl (lv_at hl 1 rfl) ?_
        refine x_get (v := .ref ta.1) hx hb hts hown hK hW xO199 in_X0 rfl 9 (by decide) q233 rfl (congrArg (fun z => some (va_rf z)) hF.2.2.2.1) dX0_ask_67 ?_
        refine lv_aload_n hx hb dX0_ask_70 rfl (lv_at hl 1 rfl) ?_
        refine x_get (v := .ref (ad 299)) hx hb hts hown hK hW xO199 in_X0 rfl 4 (by decide) q228 rfl rfl dX0_ask_71 ?_
        obtain ⟨v7, I8, A9, h9, hf⟩ := ob3_e hf
        refine pt_mark hx hb hml hown hts hK hY h0 hDW (Nat.le_trans (Nat.le_of_ble_eq_true rfl) hRf) (Nat.le_trans (Nat.le_of_ble_eq_true rfl) hRl) hcs (Nat.le_trans hB0 hS.1) hF hAP hW hS hmpaj5 h1paj5 h5paj5 (va_up_ne _ _ (by decide)) h9 hl.1 (Nat.le_of_ble_eq_true rfl) dX0_ask_74 (fun H locs X hF hAP hW hS => ?_)
        obtain ⟨rfl, rfl, rfl, rfl⟩ := so4 hf
        exact W.iret hx hb hr (fun t ht _ => ⟨rfl, by rw [ht]; exact ⟨some ta.1, G, X, own, af, ra, ta, hF, hAP, hW⟩, hS.F ht⟩) hS.2.2 dX0_ask_77
      · rw [if_pos c6] at hf
        refine lv_aload_n hx hb dX0_ask_50 rfl (lv_at hl 0 rfl) ?_
        refine lv_aload_n hx hb dX0_ask_51 rfl (lv_at hl 1 rfl) ?_
        refine x_get (v := .ref ta.1) hx hb hts hown hK hW xO199 in_X0 rfl 9 (by decide) q233 rfl (congrArg (fun z => some (va_rf z)) hF.2.2.2.1) dX0_ask_52 ?_
        refine lv_aload_n hx hb dX0_ask_55 rfl (lv_at hl 1 rfl) ?_
        refine x_get (v := .ref (ad 299)) hx hb hts hown hK hW xO199 in_X0 rfl 4 (by decide) q228 rfl rfl dX0_ask_56 ?_
        obtain ⟨v10, I11, A12, h12, hf⟩ := ob3_e hf
        refine pt_size hx hb hml hown hts hK hY h0 hDW (Nat.le_trans (Nat.le_of_ble_eq_true rfl) hRf) (Nat.le_trans (Nat.le_of_ble_eq_true rfl) hRl) hcs (Nat.le_trans hB0 hS.1) hF hAP hW hS hmpaj5 h1paj5 h5paj5 (va_up_ne _ _ (by decide)) h12 hl.1 (Nat.le_of_ble_eq_true rfl) dX0_ask_59 (fun H locs X hF hAP hW hS => ?_)
        refine lv_goto (tgt := 77) hx hb dX0_ask_62 (by decide) ?_
        obtain ⟨rfl, rfl, rfl, rfl⟩ := so4 hf
        exact W.iret hx hb hr (fun t ht _ => ⟨rfl, by rw [ht]; exact ⟨some ta.1, G, X, own, af, ra, ta, hF, hAP, hW⟩, hS.F ht⟩) hS.2.2 dX0_ask_77
    · rw [if_pos c4] at hf
      refine lv_ldc (v := (-1000001)) hx hb hown (hts _ q289) dX0_ask_15 ?_
      obtain ⟨rfl, rfl, rfl, rfl⟩ := so4 hf
      refine w_more (cells' := 2) (slots' := 18) (Nat.le_of_ble_eq_true rfl) (Nat.le_of_ble_eq_true rfl) ?_
      exact W.iret hx hb hr (fun t ht _ => ⟨rfl, by rw [ht]; exact ⟨R 109, by rw [va_up_id]; exact ⟨G, X, own, af, ra, ta, hF, hAP, hW⟩⟩, hS.F ht⟩) hS.2.2 dX0_ask_17
theorem h_ask_ds : yX0_ask.cls = RX0 ∧ yX0_ask.cls ≠ "java/lang/invoke/MethodHandle" ∧ yX0_ask.cls ≠ "java/lang/invoke/VarHandle" ∧ (parseMethodDescriptor yX0_ask.desc).map (fun d => d.parameters.length) = some 2 := by decide +kernel
