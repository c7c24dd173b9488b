/-! Row.row -/
set_option maxRecDepth 100000
section ALEN
variable {p : Program} {l : Launch} {e : Env} {R0 : Room} {s : State} {m : MethodId} {args : Array Value} {below : List Frame} {meth : Method} {c : Code} {H : Heap} {locs : List Loc} {cells slots : Nat} {Q : State → Prop} {cc : ByteArray} {pc : Nat} {ls : Array Slot} {rest : List Value} {D : dd_} {S : sp_} {ad : Nat → Nat} {I : Nat → Int32} {A : Nat → Nat → Int32} {R : Nat → Option Nat} {G : Nat → Nat → Option Nat} {X : va_W}
theorem x_alenS (hexec : p.tables.exec = Jvm.exec) (hb : c.code = cc) (hK : Kx D s) (hW : WX D S ad I A R G X H) {b n : Nat} {f : Nat → Int32} (hq : (b, Sum.inl (D.2 .int, n, Sum.inl f)) ∈ X) (hdg : decode cc pc = .ok (.arraylength, 1))
    (kk : W p l e R0 s m args below meth c H locs cells slots Q (F0 m (pc + 1) ls (.int (nI n) :: rest))) : W p l e R0 s m args below meth c H locs cells slots Q (F0 m pc ls (.ref b :: rest)) := by
  obtain ⟨q0, h0⟩ := List.getElem?_of_mem (List.mem_append_right (wl D S ad I A R G) hq)
  obtain ⟨t0, ht⟩ := Kx.at (D := D) (U := s) (ty := .int) (by decide)
  exact va_alen hexec hb hK hW q0 t0 h0 ht rfl hdg kk
end ALEN
theorem cpIK {f g : Nat → Int32} {m i k : Nat} (h : i + k ≤ m) (hm : m ≤ 40) : cpO f g m k (nI i) 0 (nI k) = some (va_cpy f g i 0 k) := by
  unfold cpO
  rw [nI_clamp (show i < 2 ^ 31 by omega), nI_clamp (show k < 2 ^ 31 by omega), show (0 : Int32).toNatClampNeg = 0 from rfl, if_neg]
  rintro (z | z | z | z | z)
  · exact ltz (show i < 2 ^ 31 by omega) z
  · exact absurd z (by decide)
  · exact ltz (show k < 2 ^ 31 by omega) z
  · omega
  · omega
set_option maxRecDepth 100000 in
set_option maxHeartbeats 4000000 in
theorem rw_row_met (l : Launch) (D : dd_) (s0 : State) (h0 : ∀ w ∈ lw_tbl, va_Nw w s0) (X : va_W) (base : Nat) (b q : Nat) (z : Int32) (mm : Nat) (e0 : Nat → Int32) (i k : Nat) (hik : i + k ≤ mm) (hm : (b, Sum.inr (5, [.int z, .ref q])) ∈ X) (hm2 : (q, Sum.inl (D.2 .int, mm, Sum.inl e0)) ∈ X) (hmm : mm ≤ 40) (hA : FA X base) : Met l yX5_row (ws_ yX5_row cX5_row 4 (some (.array .int))) ({ frames := 2, cells := 1, slots := 0 + k, locals := 60 }) (PcZ D s0 nS id (fun _ => 0) (fun _ _ => 0) nR nG X base [.ref b, .int (nI i), .int (nI k)]) (QrE (fun a H => FW D (X ++ [(a, .inl (D.2 .int, k, .inl (va_cpy e0 (fun _ => 0) i 0 k)))]) H ∧ FA (X ++ [(a, .inl (D.2 .int, k, .inl (va_cpy e0 (fun _ => 0) i 0 k)))]) base) base) 1 (0 + k) (upB base) := by
  refine Met.ofW (cc := cX5_row) (maxL := 4) (ret := (some (.array .int))) (by decide) rfl ?_
  intro p e s m args below meth c s₁ B hml hv
  obtain ⟨⟨rfl, hK, hY, hB0, hW⟩, hq0⟩ := hv
  have hx := B.exec
  have hb := B.bytes
  have hr := B.returns
  have hts0 := atoms_spec (ws := (ws_ yX5_row cX5_row 4 (some (.array .int)))) B.pre
  have hts : ∀ w ∈ lw_all, w.before _ s = true := fun w h => hts0 w (List.mem_cons_of_mem _ h)
  have hown : s.vm.findClass RX5 = some m.cls := findClass_of_methodNamed B.named
  have hlocks := B.notSynchronized
  have hRf : 2 ≤ (headSpec (ws_ yX5_row cX5_row 4 (some (.array .int))) ({ frames := 2, cells := 1, slots := 0 + k, locals := 60 })).room.frames := Nat.le_refl _
  have hRl : 60 ≤ (headSpec (ws_ yX5_row cX5_row 4 (some (.array .int))) ({ frames := 2, cells := 1, slots := 0 + k, locals := 60 })).room.locals := Nat.le_refl _
  have hS : va_S (upB base) s.heap s.heap [] := va_S.rf
  have hl := lv_entry ([.ref b, .int (nI i), .int (nI k)]) (n := 4) (Nat.le_of_ble_eq_true rfl)
  rw [lg_entry_eq]
  generalize (lg_sl ([.ref b, .int (nI i), .int (nI k)]) ++ List.replicate (4 - (lg_sl ([.ref b, .int (nI i), .int (nI k)])).length) Slot.unset).toArray = ls at hl ⊢
  have hcs : 0 ≤ (headSpec (ws_ yX5_row cX5_row 4 (some (.array .int))) ({ frames := 2, cells := 1, slots := 0 + k, locals := 60 })).room.cells ∧ 0 ≤ (headSpec (ws_ yX5_row cX5_row 4 (some (.array .int))) ({ frames := 2, cells := 1, slots := 0 + k, locals := 60 })).room.slots := ⟨Nat.zero_le _, Nat.zero_le _⟩
  have hl : lv_has ls 4 [(0, .ref b), (1, .int (nI i)), (2, .int (nI k))] := hl
  refine lv_iload_n hx hb dX5_row_0 rfl (lv_at hl 1 rfl) ?_
  refine lv_if_lt (tgt := 23) hx hb dX5_row_1 (by decide) (fun cx => absurd cx (ltz (show i < 2 ^ 31 by omega))) (fun _ => ?_)
  refine lv_iload_n hx hb dX5_row_4 rfl (lv_at hl 1 rfl) ?_
  refine lv_i2l (v := (nI i).toInt64) hx hb dX5_row_5 rfl ?_
  refine lv_iload_n hx hb dX5_row_6 rfl (lv_at hl 2 rfl) ?_
  refine lv_i2l (v := (nI k).toInt64) hx hb dX5_row_7 rfl ?_
  refine lv_ladd hx hb dX5_row_8 ?_
  refine lv_aload_n hx hb dX5_row_9 rfl (lv_at hl 0 rfl) ?_
  refine x_getD (v := .ref q) hx hb hts hown hK hW hm in_X5 rfl 1 (by decide) q365 (fun _ h => h) rfl dX5_row_10 ?_
  refine x_alenS hx hb hK hW hm2 dX5_row_13 ?_
  refine lv_i2l (v := (nI mm).toInt64) hx hb dX5_row_14 rfl ?_
  refine W.lcmp hx hb dX5_row_15 ?_
  refine lv_if_gt (tgt := 23) hx hb dX5_row_16 (by decide) (fun cx => absurd cx (by rw [nI_l (show i < 2 ^ 31 by omega), nI_l (show k < 2 ^ 31 by omega), nI_l (show mm < 2 ^ 31 by omega), lN_add, l_gt, pk_lT (by omega), pk_lT (by omega)]; omega)) (fun _ => ?_)
  refine lv_iconst (v := 1) hx hb dX5_row_19 (by decide) ?_
  refine lv_goto (tgt := 24) hx hb dX5_row_20 (by decide) ?_
  refine lv_iconst (v := 2) hx hb dX5_row_24 (by decide) ?_
  refine x_snR (ov := none) (D := D) (s0 := s0) (Sc := nS) (adc := id) (Ic := fun _ => 0) (Ac := fun _ _ => 0) (Rc := nR) (Gc := nG) (Xc := []) (base := base) (As := [.int 1, .int 2]) (rest := []) ⟨hx, hb, hml, hown, hts⟩ (must_ret l D s0 id base 1 2 (by decide)) ⟨va_cnB 2 hts (lw_meth q292) rfl rfl rfl (va_Nw.warmM hY (h0 _ q1032)) (hts _ q76) must_ds.2 ⟨Nat.le_trans (Nat.le_of_ble_eq_true rfl) hRf, Nat.le_trans (Nat.le_of_ble_eq_true rfl) hRl⟩, hts _ q291, trivial⟩ hK hY (Nat.le_trans hB0 hS.1) WX_nil hcs rfl hl.1 rfl (Nat.le_of_ble_eq_true rfl) dX5_row_25 ?_
  have hW : FW D (X ++ []) s.heap := by rw [List.append_nil]; exact hW
  have hA0 : FA (X ++ []) base := by rw [List.append_nil]; exact hA
  refine lv_iload_n hx hb dX5_row_28 rfl (lv_at hl 2 rfl) ?_
  refine f_newa (N := k) hx hb hts hK hA0 hW hS (Nat.le_trans hB0 hS.1) (ty := .int) rfl q152 vT_int rfl (fun U cA z => z) (nI_pos (by omega)) (nI_clamp (by omega)) (show k * 4 ≤ 536870912 by omega) (Nat.le_of_ble_eq_true rfl) (by show _ ≤ 0 + k; omega) dX5_row_29 (fun a9 H _ hW hA hS => ?_)
  have hW : FW D (X ++ [(a9, .inl (D.2 .int, k, .inl (fun _ => 0)))]) H := hW
  have hA : FA (X ++ [(a9, .inl (D.2 .int, k, .inl (fun _ => 0)))]) base := hA
  refine lv_astore_n (lv' := [(3, .ref a9), (0, .ref b), (1, .int (nI i)), (2, .int (nI k))]) hx hb dX5_row_31 rfl hl (by decide) rfl (fun ls hl => ?_)
  refine lv_aload_n hx hb dX5_row_32 rfl (lv_at hl 1 rfl) ?_
  refine x_getD (S := nS) (ad := id) (I := fun _ => 0) (A := fun _ _ => 0) (R := nR) (G := nG) (v := .ref q) hx hb hts hown hK (show WX D nS id (fun _ => 0) (fun _ _ => 0) nR nG (X ++ [(a9, .inl (D.2 .int, k, .inl (fun _ => 0)))]) H from hW) (List.mem_append_left _ hm) in_X5 rfl 1 (by decide) q365 (fun _ h => h) rfl dX5_row_33 ?_
  refine lv_iload_n hx hb dX5_row_36 rfl (lv_at hl 2 rfl) ?_
  refine lv_aload_n hx hb dX5_row_37 rfl (lv_at hl 0 rfl) ?_
  refine lv_iconst (v := 0) hx hb dX5_row_38 (by decide) ?_
  refine lv_iload_n hx hb dX5_row_39 rfl (lv_at hl 3 rfl) ?_
  have hv : cpO e0 (fun _ => 0) mm k (nI i) 0 (nI k) = some (va_cpy e0 (fun _ => 0) i 0 k) := cpIK (by omega) (by omega)
  refine f_copyi (X := X) hx hb hml hl.1 hts hown q1033 hK hA hW hS (List.mem_append_left _ hm2) 0 rfl hv (Nat.le_trans (Nat.le_of_ble_eq_true rfl) hRf) (Nat.le_trans (Nat.le_of_ble_eq_true rfl) hRl) dX5_row_40 (fun H locs hW hA hS => ?_)
  refine lv_aload_n hx hb dX5_row_43 rfl (lv_at hl 0 rfl) ?_
  exact W.aret hx hb hr (Or.inr ⟨_, rfl⟩) (Or.inr ⟨_, rfl⟩) (fun t ht _ => ⟨a9, rfl, by rw [ht]; exact ⟨hW, hA⟩, hS.F ht⟩) hS.2.2 dX5_row_44
set_option maxRecDepth 100000 in
set_option maxHeartbeats 4000000 in
theorem rw_row_thr (l : Launch) (D : dd_) (s0 : State) (h0 : ∀ w ∈ lw_tbl, va_Nw w s0) (X : va_W) (base : Nat) (b q : Nat) (z : Int32) (mm : Nat) (e0 : Nat → Int32) (i : Int32) (k : Nat) (hk : k ≤ 40) (hbad : ¬ (0 ≤ i.toInt ∧ i.toInt + k ≤ mm)) (hm : (b, Sum.inr (5, [.int z, .ref q])) ∈ X) (hm2 : (q, Sum.inl (D.2 .int, mm, Sum.inl e0)) ∈ X) (hmm : mm ≤ 40) (hA : FA X base) (r1 r2 : Option Nat) (de : Nat) (hz : FZ base s0 r1 r2 de) : MetT l yX5_row (ws_ yX5_row cX5_row 4 (some (.array .int))) ({ frames := 5, cells := 1, slots := 7, locals := 122 }) (PcZ D s0 nS id (fun _ => 0) (fun _ _ => 0) nR nG X base [.ref b, .int i, .int (nI k)]) (QtE (FiT D nS id (fun _ => 0) (fun _ _ => 0) nR nG X base 2) base) 1 7 (upB base) := by
  refine MetT.ofW (cc := cX5_row) (maxL := 4) (ret := (some (.array .int))) (by decide) rfl ?_
  intro p e s m args below meth c s₁ B hml hv
  obtain ⟨⟨rfl, hK, hY, hB0, hW⟩, hq0⟩ := hv
  have hx := B.exec
  have hb := B.bytes
  have hr := B.returns
  have hts0 := atoms_spec (ws := (ws_ yX5_row cX5_row 4 (some (.array .int)))) B.pre
  have hts : ∀ w ∈ lw_all, w.before _ s = true := fun w h => hts0 w (List.mem_cons_of_mem _ h)
  have hown : s.vm.findClass RX5 = some m.cls := findClass_of_methodNamed B.named
  have hlocks := B.notSynchronized
  have hRf : 5 ≤ (headSpec (ws_ yX5_row cX5_row 4 (some (.array .int))) ({ frames := 5, cells := 1, slots := 7, locals := 122 })).room.frames := Nat.le_refl _
  have hRl : 122 ≤ (headSpec (ws_ yX5_row cX5_row 4 (some (.array .int))) ({ frames := 5, cells := 1, slots := 7, locals := 122 })).room.locals := Nat.le_refl _
  have hcs : 0 ≤ (headSpec (ws_ yX5_row cX5_row 4 (some (.array .int))) ({ frames := 5, cells := 1, slots := 7, locals := 122 })).room.cells ∧ 0 ≤ (headSpec (ws_ yX5_row cX5_row 4 (some (.array .int))) ({ frames := 5, cells := 1, slots := 7, locals := 122 })).room.slots := ⟨Nat.zero_le _, Nat.zero_le _⟩
  have hS : va_S (upB base) s.heap s.heap [] := va_S.rf
  have hl := lv_entry ([.ref b, .int i, .int (nI k)]) (n := 4) (Nat.le_of_ble_eq_true rfl)
  rw [lg_entry_eq]
  generalize (lg_sl ([.ref b, .int i, .int (nI k)]) ++ List.replicate (4 - (lg_sl ([.ref b, .int i, .int (nI k)])).length) Slot.unset).toArray = ls at hl ⊢
  have hl : lv_has ls 4 [(0, .ref b), (1, .int i), (2, .int (nI k))] := hl
  have hout : ∀ x ∈ c.exceptionTable.toList, covers x 25 = false := by
    have h1 := B.noHandlers (hts0 _ List.mem_cons_self)
    intro x hx
    rw [Array.isEmpty_iff] at h1
    rw [h1] at hx
    cases hx
  by_cases c0 : i < 0
  · refine lv_iload_n hx hb dX5_row_0 rfl (lv_at hl 1 rfl) ?_
    refine lv_if_lt (tgt := 23) hx hb dX5_row_1 (by decide) (fun _ => ?_) (fun cx => absurd c0 cx)
    refine lv_iconst (v := 0) hx hb dX5_row_23 (by decide) ?_
    refine lv_iconst (v := 2) hx hb dX5_row_24 (by decide) ?_
    exact z_prop B.notSynchronized hout hS (runSNT (g := F0 m 25 ls [.int 2, .int 0]) (As := [.int 0, .int 2]) (rest := []) ⟨hx, hb, hml, hown, hts⟩ (must_thr l D s0 h0 nS nwf id X base hA.nS (fun _ => 0) (fun _ _ => 0) nR nG r1 r2 de hz 2) ⟨va_cnB 2 hts (lw_meth q292) rfl rfl rfl (va_Nw.warmM hY (h0 _ q1032)) (hts _ q76) must_ds.2 ⟨hRf, hRl⟩, hts _ q291, trivial⟩ ⟨PcZ_blind, pcz_at hY hK (Nat.le_trans hB0 hS.1) hW (z_low hq0 hB0 hS)⟩ rfl rfl hl.1 rfl (lv_room (m := m) (pc := 25) (ls := ls) (rest := []) (Nat.le_of_ble_eq_true rfl)) dX5_row_25 ⟨Nat.le_of_ble_eq_true rfl, Nat.le_of_ble_eq_true rfl⟩) (fun _ _ h => h)
  · have hgt : 0 < lg_cmp (i.toInt64 + (nI k).toInt64) (nI mm).toInt64 := by
      obtain ⟨j, hj, rfl⟩ := nI_of c0
      rw [nI_toInt hj] at hbad
      rw [nI_l hj, nI_l (show k < 2 ^ 31 by omega), nI_l (show mm < 2 ^ 31 by omega), lN_add, l_gt, pk_lT (by omega), pk_lT (by omega)]
      omega
    refine lv_iload_n hx hb dX5_row_0 rfl (lv_at hl 1 rfl) ?_
    refine lv_if_lt (tgt := 23) hx hb dX5_row_1 (by decide) (fun cx => absurd cx c0) (fun _ => ?_)
    refine lv_iload_n hx hb dX5_row_4 rfl (lv_at hl 1 rfl) ?_
    refine lv_i2l (v := i.toInt64) hx hb dX5_row_5 rfl ?_
    refine lv_iload_n hx hb dX5_row_6 rfl (lv_at hl 2 rfl) ?_
    refine lv_i2l (v := (nI k).toInt64) hx hb dX5_row_7 rfl ?_
    refine lv_ladd hx hb dX5_row_8 ?_
    refine lv_aload_n hx hb dX5_row_9 rfl (lv_at hl 0 rfl) ?_
    refine x_getD (v := .ref q) hx hb hts hown hK hW hm in_X5 rfl 1 (by decide) q365 (fun _ h => h) rfl dX5_row_10 ?_
    refine x_alenS hx hb hK hW hm2 dX5_row_13 ?_
    refine lv_i2l (v := (nI mm).toInt64) hx hb dX5_row_14 rfl ?_
    refine W.lcmp hx hb dX5_row_15 ?_
    refine lv_if_gt (tgt := 23) hx hb dX5_row_16 (by decide) (fun _ => ?_) (fun cx => absurd hgt cx)
    refine lv_iconst (v := 0) hx hb dX5_row_23 (by decide) ?_
    refine lv_iconst (v := 2) hx hb dX5_row_24 (by decide) ?_
    exact z_prop B.notSynchronized hout hS (runSNT (g := F0 m 25 ls [.int 2, .int 0]) (As := [.int 0, .int 2]) (rest := []) ⟨hx, hb, hml, hown, hts⟩ (must_thr l D s0 h0 nS nwf id X base hA.nS (fun _ => 0) (fun _ _ => 0) nR nG r1 r2 de hz 2) ⟨va_cnB 2 hts (lw_meth q292) rfl rfl rfl (va_Nw.warmM hY (h0 _ q1032)) (hts _ q76) must_ds.2 ⟨hRf, hRl⟩, hts _ q291, trivial⟩ ⟨PcZ_blind, pcz_at hY hK (Nat.le_trans hB0 hS.1) hW (z_low hq0 hB0 hS)⟩ rfl rfl hl.1 rfl (lv_room (m := m) (pc := 25) (ls := ls) (rest := []) (Nat.le_of_ble_eq_true rfl)) dX5_row_25 ⟨Nat.le_of_ble_eq_true rfl, Nat.le_of_ble_eq_true rfl⟩) (fun _ _ h => h)
theorem rw_row_ds : yX5_row.cls = RX5 ∧ yX5_row.cls ≠ "java/lang/invoke/MethodHandle" ∧ yX5_row.cls ≠ "java/lang/invoke/VarHandle" ∧ (parseMethodDescriptor yX5_row.desc).map (fun d => d.parameters.length) = some 2 := by decide +kernel
