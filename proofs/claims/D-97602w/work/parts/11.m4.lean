/-! keptMany -/
def m_keptMany_L4 (I : Nat → Int32) (A : Nat → Nat → Int32) : Nat → Int32 → Int32 → Option (Int32 × Int32)
  | 0, _, _ => none
  | n + 1, x1, x2 =>
    ob1 (ldO (A 0) 2044 7) fun (v1 : Int32) =>
    if v1 ≤ x2 then (some (x1, x2)) else (ob1 (ldO (A 0) 2044 (65 + x2)) fun (v3 : Int32) =>
      m_keptMany_L4 I A n (x1 + v3) (x2 + 1))
set_option maxRecDepth 100000 in
set_option maxHeartbeats 4000000 in
theorem m_keptMany_L4_w {p : Program} {l : Launch} {e : Env} {R0 : Room} {s : State} {m : MethodId} {args : Array Value} {below : List Frame} {meth : Method} {c : Code} {cells slots : Nat} {Q : State → Prop} {D : dd_} {ad : Nat → Nat} (hx : p.tables.exec = Jvm.exec) (hb : c.code = cX3_keptMany) (hml : c.maxLocals = 3) (hown : s.vm.findClass RX3 = some m.cls) (hts : ∀ w ∈ lw_all, w.before args s = true) (hK : Kx D s) (hRf : 1 ≤ R0.frames) (hRl : 16 ≤ R0.locals) (hcs : cells ≤ R0.cells ∧ slots ≤ R0.slots) {H : Heap} {locs : List Loc} (I : Nat → Int32) (A : Nat → Nat → Int32) (hW : WH D mS ad I A nR nG H) (y1 : Int32) (y2 : Int32) (KX : ∀ (ls : Array Slot), lv_has ls 3 [(1, .int y1)] → W p l e R0 s m args below meth c H locs cells slots Q (F0 m 33 ls [])) : ∀ (n : Nat) (x1 : Int32) (x2 : Int32) (ls : Array Slot), m_keptMany_L4 I A n x1 x2 = some (y1, y2) → lv_has ls 3 [(0, .ref (ad 99)), (1, .int x1), (2, .int x2)] → W p l e R0 s m args below meth c H locs cells slots Q (F0 m 4 ls []) := by
  intro n
  induction n with
  | zero =>
    intro x1 x2 ls hf
    exact nomatch (show (none : Option (Int32 × Int32)) = some (y1, y2) from hf)
  | succ n ih =>
    intro x1 x2 ls hf hl
    have hf : (ob1 (ldO (A 0) 2044 7) fun (v1 : Int32) =>
        if v1 ≤ x2 then (some (x1, x2)) else (ob1 (ldO (A 0) 2044 (65 + x2)) fun (v3 : Int32) =>
          m_keptMany_L4 I A n (x1 + v3) (x2 + 1))) = some (y1, y2) := hf
    refine lv_iload_n hx hb dX3_keptMany_4 rfl (lv_at hl 2 rfl) ?_
    refine lv_aload_n hx hb dX3_keptMany_5 rfl (lv_at hl 0 rfl) ?_
    refine g_get (v := .ref (ad 0)) hx hb hts hown hK hW mO in_X3 rfl 0 (by decide) q1212 rfl rfl dX3_keptMany_6 ?_
    refine lv_bipush (v := 7) hx hb dX3_keptMany_9 (by decide) ?_
    obtain ⟨v1, hv1, hf⟩ := ob1_e hf
    refine g_iald hx hb hK hW mA0 hv1 dX3_keptMany_11 ?_
    refine lv_icmp_ge (tgt := 33) hx hb dX3_keptMany_12 (by decide) (fun c2 => ?_) (fun c2 => ?_)
    · rw [if_pos c2] at hf
      obtain ⟨rfl, rfl⟩ := so2 hf
      exact KX ls (lv_sub hl [1] rfl)
    · rw [if_neg c2] at hf
      refine lv_iload_n hx hb dX3_keptMany_15 rfl (lv_at hl 1 rfl) ?_
      refine lv_aload_n hx hb dX3_keptMany_16 rfl (lv_at hl 0 rfl) ?_
      refine g_get (v := .ref (ad 0)) hx hb hts hown hK hW mO in_X3 rfl 0 (by decide) q1212 rfl rfl dX3_keptMany_17 ?_
      refine lv_bipush (v := 65) hx hb dX3_keptMany_20 (by decide) ?_
      refine lv_iload_n hx hb dX3_keptMany_22 rfl (lv_at hl 2 rfl) ?_
      refine lv_iadd hx hb dX3_keptMany_23 ?_
      obtain ⟨v3, hv3, hf⟩ := ob1_e hf
      refine g_iald hx hb hK hW mA0 hv3 dX3_keptMany_24 ?_
      refine lv_iadd hx hb dX3_keptMany_25 ?_
      refine lv_istore_n (lv' := [(1, .int (x1 + v3)), (0, .ref (ad 99)), (2, .int x2)]) hx hb dX3_keptMany_26 rfl hl (by decide) rfl (fun ls hl => ?_)
      refine lv_iinc (v := x2 + 1) (lv' := [(2, .int (x2 + 1)), (1, .int (x1 + v3)), (0, .ref (ad 99))]) hx hb dX3_keptMany_27 hl (k := 2) rfl (by rfl) (by decide) rfl (fun ls hl => ?_)
      refine lv_goto (tgt := 4) hx hb dX3_keptMany_30 (by decide) ?_
      exact ih (x1 + v3) (x2 + 1) ls hf (lv_sub hl [2, 1, 0] rfl)
def m_keptMany (I : Nat → Int32) (A : Nat → Nat → Int32) : Option (Int32) :=
  ob2 (m_keptMany_L4 I A NF 0 0) fun (v1 : Int32) (v2 : Int32) =>
  some v1
set_option maxRecDepth 100000 in
set_option maxHeartbeats 4000000 in
theorem m_keptMany_met (l : Launch) (D : dd_) (ad : Nat → Nat) (I : Nat → Int32) (A : Nat → Nat → Int32) (r : Int32) (hf : m_keptMany I A  = some r) : Met l yX3_keptMany (ws_ yX3_keptMany cX3_keptMany 3 (some .int)) ({ frames := 1, cells := 0, slots := 0, locals := 16 }) (PcW D mS ad I A nR nG [.ref (ad 99)]) (QcR (some (.int r))) 0 0 (fun _ => False) := by
  refine Met.ofW (cc := cX3_keptMany) (maxL := 3) (ret := (some .int)) (by decide) rfl ?_
  intro p e s m args below meth c s₁ B hml hv
  obtain ⟨rfl, hK, hW⟩ := hv
  have hx := B.exec
  have hb := B.bytes
  have hr := B.returns
  have hts := atoms_spec (ws := (ws_ yX3_keptMany cX3_keptMany 3 (some .int))) B.pre
  have hts : ∀ w ∈ lw_all, w.before _ s = true := fun w h => hts w (List.mem_cons_of_mem _ h)
  have hown : s.vm.findClass RX3 = some m.cls := findClass_of_methodNamed B.named
  have hlocks := B.notSynchronized
  have hRf : 1 ≤ (headSpec (ws_ yX3_keptMany cX3_keptMany 3 (some .int)) ({ frames := 1, cells := 0, slots := 0, locals := 16 })).room.frames := Nat.le_refl _
  have hRl : 16 ≤ (headSpec (ws_ yX3_keptMany cX3_keptMany 3 (some .int)) ({ frames := 1, cells := 0, slots := 0, locals := 16 })).room.locals := Nat.le_refl _
  have hcs : 0 ≤ (headSpec (ws_ yX3_keptMany cX3_keptMany 3 (some .int)) ({ frames := 1, cells := 0, slots := 0, locals := 16 })).room.cells ∧ 0 ≤ (headSpec (ws_ yX3_keptMany cX3_keptMany 3 (some .int)) ({ frames := 1, cells := 0, slots := 0, locals := 16 })).room.slots := ⟨Nat.zero_le _, Nat.zero_le _⟩
  have hl := lv_entry ([.ref (ad 99)]) (n := 3) (Nat.le_of_ble_eq_true rfl)
  rw [lg_entry_eq]
  generalize (lg_sl ([.ref (ad 99)]) ++ List.replicate (3 - (lg_sl ([.ref (ad 99)])).length) Slot.unset).toArray = ls at hl ⊢
  have hl : lv_has ls 3 [(0, .ref (ad 99))] := hl
  have hf : (ob2 (m_keptMany_L4 I A NF 0 0) fun (v1 : Int32) (v2 : Int32) =>
    some v1) = some r := hf
  refine lv_iconst (v := 0) hx hb dX3_keptMany_0 (by decide) ?_
  refine lv_istore_n (lv' := [(1, .int 0), (0, .ref (ad 99))]) hx hb dX3_keptMany_1 rfl hl (by decide) rfl (fun ls hl => ?_)
  refine lv_iconst (v := 0) hx hb dX3_keptMany_2 (by decide) ?_
  refine lv_istore_n (lv' := [(2, .int 0), (1, .int 0), (0, .ref (ad 99))]) hx hb dX3_keptMany_3 rfl hl (by decide) rfl (fun ls hl => ?_)
  obtain ⟨v1, v2, hq2, hf⟩ := ob2_e hf
  refine m_keptMany_L4_w hx hb hml hown hts hK hRf hRl hcs I A hW v1 v2 (fun ls hl => ?_) NF 0 0 ls hq2 (lv_sub hl [2, 1, 0] rfl)
  refine lv_iload_n hx hb dX3_keptMany_33 rfl (lv_at hl 0 rfl) ?_
  obtain rfl := so1 hf
  exact W.iret hx hb hr (fun t ht _ => ⟨rfl, ht⟩) (fun q hq => by cases hq) dX3_keptMany_34
theorem m_keptMany_ds : yX3_keptMany.cls = RX3 ∧ yX3_keptMany.cls ≠ "java/lang/invoke/MethodHandle" ∧ yX3_keptMany.cls ≠ "java/lang/invoke/VarHandle" ∧ (parseMethodDescriptor yX3_keptMany.desc).map (fun d => d.parameters.length) = some 0 := by decide +kernel
/-! count -/
def m_count (I : Nat → Int32) (A : Nat → Nat → Int32) (a0 : Int32) : Option (Int32) :=
  if a0 = 0 then (ob1 (m_rowsMany I A ) fun (v2 : Int32) =>
    some v2) else if a0 = 1 then (ob1 (ldO (A 0) 2044 6) fun (v4 : Int32) =>
    some v4) else if a0 = 2 then (ob1 (ldO (A 0) 2044 7) fun (v6 : Int32) =>
    some v6) else if a0 = 3 then (ob1 (m_keptMany I A ) fun (v8 : Int32) =>
    some v8) else if a0 = 4 then (ob1 (ldO (A 0) 2044 8) fun (v10 : Int32) =>
    some v10) else if a0 = 5 then (ob1 (m_crushedNow I A ) fun (v12 : Int32) =>
    some v12) else if a0 = 6 then (some (I 1)) else if a0 = 7 then (some (I 9)) else (some (-1000001))
set_option maxRecDepth 100000 in
set_option maxHeartbeats 4000000 in
theorem m_count_met (l : Launch) (D : dd_) (ad : Nat → Nat) (I : Nat → Int32) (A : Nat → Nat → Int32) (a0 : Int32) (r : Int32) (hf : m_count I A a0 = some r) : Met l yX3_count (ws_ yX3_count cX3_count 2 (some .int)) ({ frames := 6, cells := 0, slots := 0, locals := 125 }) (PcW D mS ad I A nR nG [.ref (ad 99), .int a0]) (QcR (some (.int r))) 0 0 (fun _ => False) := by
  refine Met.ofW (cc := cX3_count) (maxL := 2) (ret := (some .int)) (by decide) rfl ?_
  intro p e s m args below meth c s₁ B hml hv
  obtain ⟨rfl, hK, hW⟩ := hv
  have hx := B.exec
  have hb := B.bytes
  have hr := B.returns
  have hts := atoms_spec (ws := (ws_ yX3_count cX3_count 2 (some .int))) B.pre
  have hts : ∀ w ∈ lw_all, w.before _ s = true := fun w h => hts w (List.mem_cons_of_mem _ h)
  have hown : s.vm.findClass RX3 = some m.cls := findClass_of_methodNamed B.named
  have hlocks := B.notSynchronized
  have hRf : 6 ≤ (headSpec (ws_ yX3_count cX3_count 2 (some .int)) ({ frames := 6, cells := 0, slots := 0, locals := 125 })).room.frames := Nat.le_refl _
  have hRl : 125 ≤ (headSpec (ws_ yX3_count cX3_count 2 (some .int)) ({ frames := 6, cells := 0, slots := 0, locals := 125 })).room.locals := Nat.le_refl _
  have hcs : 0 ≤ (headSpec (ws_ yX3_count cX3_count 2 (some .int)) ({ frames := 6, cells := 0, slots := 0, locals := 125 })).room.cells ∧ 0 ≤ (headSpec (ws_ yX3_count cX3_count 2 (some .int)) ({ frames := 6, cells := 0, slots := 0, locals := 125 })).room.slots := ⟨Nat.zero_le _, Nat.zero_le _⟩
  have hl := lv_entry ([.ref (ad 99), .int a0]) (n := 2) (Nat.le_of_ble_eq_true rfl)
  rw [lg_entry_eq]
  generalize (lg_sl ([.ref (ad 99), .int a0]) ++ List.replicate (2 - (lg_sl ([.ref (ad 99), .int a0])).length) Slot.unset).toArray = ls at hl ⊢
  have hl : lv_has ls 2 [(0, .ref (ad 99)), (1, .int a0)] := hl
  have hf : (if a0 = 0 then (ob1 (m_rowsMany I A ) fun (v2 : Int32) =>
      some v2) else if a0 = 1 then (ob1 (ldO (A 0) 2044 6) fun (v4 : Int32) =>
      some v4) else if a0 = 2 then (ob1 (ldO (A 0) 2044 7) fun (v6 : Int32) =>
      some v6) else if a0 = 3 then (ob1 (m_keptMany I A ) fun (v8 : Int32) =>
      some v8) else if a0 = 4 then (ob1 (ldO (A 0) 2044 8) fun (v10 : Int32) =>
      some v10) else if a0 = 5 then (ob1 (m_crushedNow I A ) fun (v12 : Int32) =>
      some v12) else if a0 = 6 then (some (I 1)) else if a0 = 7 then (some (I 9)) else (some (-1000001))) = some r := hf
  refine lv_iload_n hx hb dX3_count_0 rfl (lv_at hl 1 rfl) ?_
  by_cases c1 : a0 = 0
  · rw [if_pos c1] at hf
    refine g_tsI (tgt := 48) hx hb dX3_count_1 c1 (by decide) (by decide) rfl (by decide) ?_
    refine lv_aload_n hx hb dX3_count_48 rfl (lv_at hl 0 rfl) ?_
    obtain ⟨v2, h2, hf⟩ := ob1_e hf
    refine g_vR (ov := some (.int v2)) (D := D) (Sc := mS) (adc := ad) (Ic := I) (Ac := A) (Rc := nR) (Gc := nG) (As := []) (rest := []) (b := ad 99) (C := RX3) ⟨hx, hb, hml, hown, hts⟩ (m_rowsMany_met l D ad I A  v2 h2) (g_cwV 0 hts (lw_V q1635 q1637 qs73 q82 q1638) rfl rfl m_rowsMany_ds ⟨Nat.le_trans (Nat.le_of_ble_eq_true rfl) hRf, Nat.le_trans (Nat.le_of_ble_eq_true rfl) hRl⟩) (g_recv hK hW mO rfl) hK hW hcs rfl hl.1 rfl (Nat.le_of_ble_eq_true rfl) dX3_count_49 ?_
    obtain rfl := so1 hf
    exact W.iret hx hb hr (fun t ht _ => ⟨rfl, ht⟩) (fun q hq => by cases hq) dX3_count_52
  · rw [if_neg c1] at hf
    by_cases c3 : a0 = 1
    · rw [if_pos c3] at hf
      refine g_tsI (tgt := 53) hx hb dX3_count_1 c3 (by decide) (by decide) rfl (by decide) ?_
      refine lv_aload_n hx hb dX3_count_53 rfl (lv_at hl 0 rfl) ?_
      refine g_get (v := .ref (ad 0)) hx hb hts hown hK hW mO in_X3 rfl 0 (by decide) q1212 rfl rfl dX3_count_54 ?_
      refine lv_bipush (v := 6) hx hb dX3_count_57 (by decide) ?_
      obtain ⟨v4, hv4, hf⟩ := ob1_e hf
      refine g_iald hx hb hK hW mA0 hv4 dX3_count_59 ?_
      obtain rfl := so1 hf
      exact W.iret hx hb hr (fun t ht _ => ⟨rfl, ht⟩) (fun q hq => by cases hq) dX3_count_60
    · rw [if_neg c3] at hf
      by_cases c5 : a0 = 2
      · rw [if_pos c5] at hf
        refine g_tsI (tgt := 61) hx hb dX3_count_1 c5 (by decide) (by decide) rfl (by decide) ?_
        refine lv_aload_n hx hb dX3_count_61 rfl (lv_at hl 0 rfl) ?_
        refine g_get (v := .ref (ad 0)) hx hb hts hown hK hW mO in_X3 rfl 0 (by decide) q1212 rfl rfl dX3_count_62 ?_
        refine lv_bipush (v := 7) hx hb dX3_count_65 (by decide) ?_
        obtain ⟨v6, hv6, hf⟩ := ob1_e hf
        refine g_iald hx hb hK hW mA0 hv6 dX3_count_67 ?_
        obtain rfl := so1 hf
        exact W.iret hx hb hr (fun t ht _ => ⟨rfl, ht⟩) (fun q hq => by cases hq) dX3_count_68
      · rw [if_neg c5] at hf
        by_cases c7 : a0 = 3
        · rw [if_pos c7] at hf
          refine g_tsI (tgt := 69) hx hb dX3_count_1 c7 (by decide) (by decide) rfl (by decide) ?_
          refine lv_aload_n hx hb dX3_count_69 rfl (lv_at hl 0 rfl) ?_
          obtain ⟨v8, h8, hf⟩ := ob1_e hf
          refine g_vR (ov := some (.int v8)) (D := D) (Sc := mS) (adc := ad) (Ic := I) (Ac := A) (Rc := nR) (Gc := nG) (As := []) (rest := []) (b := ad 99) (C := RX3) ⟨hx, hb, hml, hown, hts⟩ (m_keptMany_met l D ad I A  v8 h8) (g_cwV 0 hts (lw_V q1639 q1641 qs74 q82 q1642) rfl rfl m_keptMany_ds ⟨Nat.le_trans (Nat.le_of_ble_eq_true rfl) hRf, Nat.le_trans (Nat.le_of_ble_eq_true rfl) hRl⟩) (g_recv hK hW mO rfl) hK hW hcs rfl hl.1 rfl (Nat.le_of_ble_eq_true rfl) dX3_count_70 ?_
          obtain rfl := so1 hf
          exact W.iret hx hb hr (fun t ht _ => ⟨rfl, ht⟩) (fun q hq => by cases hq) dX3_count_73
        · rw [if_neg c7] at hf
          by_cases c9 : a0 = 4
          · rw [if_pos c9] at hf
            refine g_tsI (tgt := 74) hx hb dX3_count_1 c9 (by decide) (by decide) rfl (by decide) ?_
            refine lv_aload_n hx hb dX3_count_74 rfl (lv_at hl 0 rfl) ?_
            refine g_get (v := .ref (ad 0)) hx hb hts hown hK hW mO in_X3 rfl 0 (by decide) q1212 rfl rfl dX3_count_75 ?_
            refine lv_bipush (v := 8) hx hb dX3_count_78 (by decide) ?_
            obtain ⟨v10, hv10, hf⟩ := ob1_e hf
            refine g_iald hx hb hK hW mA0 hv10 dX3_count_80 ?_
            obtain rfl := so1 hf
            exact W.iret hx hb hr (fun t ht _ => ⟨rfl, ht⟩) (fun q hq => by cases hq) dX3_count_81
          · rw [if_neg c9] at hf
            by_cases c11 : a0 = 5
            · rw [if_pos c11] at hf
              refine g_tsI (tgt := 82) hx hb dX3_count_1 c11 (by decide) (by decide) rfl (by decide) ?_
              refine lv_aload_n hx hb dX3_count_82 rfl (lv_at hl 0 rfl) ?_
              obtain ⟨v12, h12, hf⟩ := ob1_e hf
              refine g_vR (ov := some (.int v12)) (D := D) (Sc := mS) (adc := ad) (Ic := I) (Ac := A) (Rc := nR) (Gc := nG) (As := []) (rest := []) (b := ad 99) (C := RX3) ⟨hx, hb, hml, hown, hts⟩ (m_crushedNow_met l D ad I A  v12 h12) (g_cwV 0 hts (lw_V q1549 q1551 qs62 q82 q1552) rfl rfl m_crushedNow_ds ⟨Nat.le_trans (Nat.le_of_ble_eq_true rfl) hRf, Nat.le_trans (Nat.le_of_ble_eq_true rfl) hRl⟩) (g_recv hK hW mO rfl) hK hW hcs rfl hl.1 rfl (Nat.le_of_ble_eq_true rfl) dX3_count_83 ?_
              obtain rfl := so1 hf
              exact W.iret hx hb hr (fun t ht _ => ⟨rfl, ht⟩) (fun q hq => by cases hq) dX3_count_86
            · rw [if_neg c11] at hf
              by_cases c13 : a0 = 6
              · rw [if_pos c13] at hf
                refine g_tsI (tgt := 87) hx hb dX3_count_1 c13 (by decide) (by decide) rfl (by decide) ?_
                refine lv_aload_n hx hb dX3_count_87 rfl (lv_at hl 0 rfl) ?_
                refine g_get (v := .int (I 1)) hx hb hts hown hK hW mO in_X3 rfl 1 (by decide) q1213 rfl rfl dX3_count_88 ?_
                obtain rfl := so1 hf
                exact W.iret hx hb hr (fun t ht _ => ⟨rfl, ht⟩) (fun q hq => by cases hq) dX3_count_91
              · rw [if_neg c13] at hf
                by_cases c14 : a0 = 7
                · rw [if_pos c14] at hf
                  refine g_tsI (tgt := 92) hx hb dX3_count_1 c14 (by decide) (by decide) rfl (by decide) ?_
                  refine lv_aload_n hx hb dX3_count_92 rfl (lv_at hl 0 rfl) ?_
                  refine g_get (v := .int (I 9)) hx hb hts hown hK hW mO in_X3 rfl 9 (by decide) q1221 rfl rfl dX3_count_93 ?_
                  obtain rfl := so1 hf
                  exact W.iret hx hb hr (fun t ht _ => ⟨rfl, ht⟩) (fun q hq => by cases hq) dX3_count_96
                · rw [if_neg c14] at hf
                  refine lv_tableOut (tgt := 97) hx hb dX3_count_1 (by have z0 := lv_neT c1 (show (0 : Int32).toInt = 0 by decide); have z1 := lv_neT c3 (show (1 : Int32).toInt = 1 by decide); have z2 := lv_neT c5 (show (2 : Int32).toInt = 2 by decide); have z3 := lv_neT c7 (show (3 : Int32).toInt = 3 by decide); have z4 := lv_neT c9 (show (4 : Int32).toInt = 4 by decide); have z5 := lv_neT c11 (show (5 : Int32).toInt = 5 by decide); have z6 := lv_neT c13 (show (6 : Int32).toInt = 6 by decide); have z7 := lv_neT c14 (show (7 : Int32).toInt = 7 by decide); omega) (by decide) ?_
                  refine lv_ldc (v := (-1000001)) hx hb hown (hts _ q1298) dX3_count_97 ?_
                  obtain rfl := so1 hf
                  exact W.iret hx hb hr (fun t ht _ => ⟨rfl, ht⟩) (fun q hq => by cases hq) dX3_count_99
theorem m_count_ds : yX3_count.cls = RX3 ∧ yX3_count.cls ≠ "java/lang/invoke/MethodHandle" ∧ yX3_count.cls ≠ "java/lang/invoke/VarHandle" ∧ (parseMethodDescriptor yX3_count.desc).map (fun d => d.parameters.length) = some 1 := by decide +kernel
/-! status -/
def m_status (I : Nat → Int32) (A : Nat → Nat → Int32) : Option (Int32) :=
  some (I 7)
set_option maxRecDepth 100000 in
set_option maxHeartbeats 4000000 in
theorem m_status_met (l : Launch) (D : dd_) (ad : Nat → Nat) (I : Nat → Int32) (A : Nat → Nat → Int32) (r : Int32) (hf : m_status I A  = some r) : Met l yX3_status (ws_ yX3_status cX3_status 1 (some .int)) ({ frames := 1, cells := 0, slots := 0, locals := 16 }) (PcW D mS ad I A nR nG [.ref (ad 99)]) (QcR (some (.int r))) 0 0 (fun _ => False) := by
  refine Met.ofW (cc := cX3_status) (maxL := 1) (ret := (some .int)) (by decide) rfl ?_
  intro p e s m args below meth c s₁ B hml hv
  obtain ⟨rfl, hK, hW⟩ := hv
  have hx := B.exec
  have hb := B.bytes
  have hr := B.returns
  have hts := atoms_spec (ws := (ws_ yX3_status cX3_status 1 (some .int))) B.pre
  have hts : ∀ w ∈ lw_all, w.before _ s = true := fun w h => hts w (List.mem_cons_of_mem _ h)
  have hown : s.vm.findClass RX3 = some m.cls := findClass_of_methodNamed B.named
  have hlocks := B.notSynchronized
  have hRf : 1 ≤ (headSpec (ws_ yX3_status cX3_status 1 (some .int)) ({ frames := 1, cells := 0, slots := 0, locals := 16 })).room.frames := Nat.le_refl _
  have hRl : 16 ≤ (headSpec (ws_ yX3_status cX3_status 1 (some .int)) ({ frames := 1, cells := 0, slots := 0, locals := 16 })).room.locals := Nat.le_refl _
  have hcs : 0 ≤ (headSpec (ws_ yX3_status cX3_status 1 (some .int)) ({ frames := 1, cells := 0, slots := 0, locals := 16 })).room.cells ∧ 0 ≤ (headSpec (ws_ yX3_status cX3_status 1 (some .int)) ({ frames := 1, cells := 0, slots := 0, locals := 16 })).room.slots := ⟨Nat.zero_le _, Nat.zero_le _⟩
  have hl := lv_entry ([.ref (ad 99)]) (n := 1) (Nat.le_of_ble_eq_true rfl)
  rw [lg_entry_eq]
  generalize (lg_sl ([.ref (ad 99)]) ++ List.replicate (1 - (lg_sl ([.ref (ad 99)])).length) Slot.unset).toArray = ls at hl ⊢
  have hl : lv_has ls 1 [(0, .ref (ad 99))] := hl
  have hf : (some (I 7)) = some r := hf
  refine lv_aload_n hx hb dX3_status_0 rfl (lv_at hl 0 rfl) ?_
  refine g_get (v := .int (I 7)) hx hb hts hown hK hW mO in_X3 rfl 7 (by decide) q1219 rfl rfl dX3_status_1 ?_
  obtain rfl := so1 hf
  exact W.iret hx hb hr (fun t ht _ => ⟨rfl, ht⟩) (fun q hq => by cases hq) dX3_status_4
theorem m_status_ds : yX3_status.cls = RX3 ∧ yX3_status.cls ≠ "java/lang/invoke/MethodHandle" ∧ yX3_status.cls ≠ "java/lang/invoke/VarHandle" ∧ (parseMethodDescriptor yX3_status.desc).map (fun d => d.parameters.length) = some 0 := by decide +kernel
