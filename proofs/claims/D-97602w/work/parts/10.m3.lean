/-! voteOf -/
def m_voteOf_L39 (I : Nat → Int32) (A : Nat → Nat → Int32) (u1 : Int32) (u2 : Int32) (u3 : Int32) (u4 : Int32) : Nat → Int32 → Int32 → Option (Int32 × Int32)
  | 0, _, _ => none
  | n + 1, x5, x6 =>
    ob1 (ldO (A 0) 2044 7) fun (v1 : Int32) =>
    if v1 ≤ x6 then (some (x5, x6)) else (ob1 (ldO (A 0) 2044 (10 + u4)) fun (v3 : Int32) =>
      ob1 (if v3 = 2 then (ob1 (ldO (A 0) 2044 (25 + x6)) fun (v6 : Int32) =>
          if v6 = u4 then (ob1 (ldO (A 0) 2044 (33 + x6)) fun (v8 : Int32) =>
            if v8 = u1 then (ob1 (m_poundsOf I A x6) fun (v10 : Int32) =>
              (some v10 : Option (Int32))) else ((some 0 : Option (Int32)))) else ((some 0 : Option (Int32)))) else ((some 0 : Option (Int32)))) fun (v4 : Int32) =>
      m_voteOf_L39 I A u1 u2 u3 u4 n (x5 + v4) (x6 + 1))
set_option maxRecDepth 100000 in
set_option maxHeartbeats 4000000 in
theorem m_voteOf_L39_w {p : Program} {l : Launch} {e : Env} {R0 : Room} {s : State} {m : MethodId} {args : Array Value} {below : List Frame} {meth : Method} {c : Code} {cells slots : Nat} {Q : State → Prop} {D : dd_} {ad : Nat → Nat} (hx : p.tables.exec = Jvm.exec) (hb : c.code = cX3_voteOf) (hml : c.maxLocals = 7) (hown : s.vm.findClass RX3 = some m.cls) (hts : ∀ w ∈ lw_all, w.before args s = true) (hK : Kx D s) (hRf : 3 ≤ R0.frames) (hRl : 59 ≤ R0.locals) (hcs : cells ≤ R0.cells ∧ slots ≤ R0.slots) {H : Heap} {locs : List Loc} (I : Nat → Int32) (A : Nat → Nat → Int32) (u1 : Int32) (u2 : Int32) (u3 : Int32) (u4 : Int32) (hW : WH D mS ad I A nR nG H) (y5 : Int32) (y6 : Int32) (KX : ∀ (ls : Array Slot), lv_has ls 7 [(0, .ref (ad 99)), (1, .int u1), (2, .int u2), (3, .int u3), (4, .int u4), (5, .int y5)] → W p l e R0 s m args below meth c H locs cells slots Q (F0 m 115 ls [])) : ∀ (n : Nat) (x5 : Int32) (x6 : Int32) (ls : Array Slot), m_voteOf_L39 I A u1 u2 u3 u4 n x5 x6 = some (y5, y6) → lv_has ls 7 [(0, .ref (ad 99)), (1, .int u1), (2, .int u2), (3, .int u3), (4, .int u4), (5, .int x5), (6, .int x6)] → W p l e R0 s m args below meth c H locs cells slots Q (F0 m 39 ls []) := by
  intro n
  induction n with
  | zero =>
    intro x5 x6 ls hf
    exact nomatch (show (none : Option (Int32 × Int32)) = some (y5, y6) from hf)
  | succ n ih =>
    intro x5 x6 ls hf hl
    have hf : (ob1 (ldO (A 0) 2044 7) fun (v1 : Int32) =>
        if v1 ≤ x6 then (some (x5, x6)) else (ob1 (ldO (A 0) 2044 (10 + u4)) fun (v3 : Int32) =>
          ob1 (if v3 = 2 then (ob1 (ldO (A 0) 2044 (25 + x6)) fun (v6 : Int32) =>
              if v6 = u4 then (ob1 (ldO (A 0) 2044 (33 + x6)) fun (v8 : Int32) =>
                if v8 = u1 then (ob1 (m_poundsOf I A x6) fun (v10 : Int32) =>
                  (some v10 : Option (Int32))) else ((some 0 : Option (Int32)))) else ((some 0 : Option (Int32)))) else ((some 0 : Option (Int32)))) fun (v4 : Int32) =>
          m_voteOf_L39 I A u1 u2 u3 u4 n (x5 + v4) (x6 + 1))) = some (y5, y6) := hf
    refine lv_iload hx hb dX3_voteOf_39 (lv_at hl 6 rfl) ?_
    refine lv_aload_n hx hb dX3_voteOf_41 rfl (lv_at hl 0 rfl) ?_
    refine g_get (v := .ref (ad 0)) hx hb hts hown hK hW mO in_X3 rfl 0 (by decide) q1212 rfl rfl dX3_voteOf_42 ?_
    refine lv_bipush (v := 7) hx hb dX3_voteOf_45 (by decide) ?_
    obtain ⟨v1, hv1, hf⟩ := ob1_e hf
    refine g_iald hx hb hK hW mA0 hv1 dX3_voteOf_47 ?_
    refine lv_icmp_ge (tgt := 115) hx hb dX3_voteOf_48 (by decide) (fun c2 => ?_) (fun c2 => ?_)
    · rw [if_pos c2] at hf
      obtain ⟨rfl, rfl⟩ := so2 hf
      exact KX ls (lv_sub hl [0, 1, 2, 3, 4, 5] rfl)
    · rw [if_neg c2] at hf
      refine lv_iload hx hb dX3_voteOf_51 (lv_at hl 5 rfl) ?_
      refine lv_aload_n hx hb dX3_voteOf_53 rfl (lv_at hl 0 rfl) ?_
      refine g_get (v := .ref (ad 0)) hx hb hts hown hK hW mO in_X3 rfl 0 (by decide) q1212 rfl rfl dX3_voteOf_54 ?_
      refine lv_bipush (v := 10) hx hb dX3_voteOf_57 (by decide) ?_
      refine lv_iload hx hb dX3_voteOf_59 (lv_at hl 4 rfl) ?_
      refine lv_iadd hx hb dX3_voteOf_61 ?_
      obtain ⟨v3, hv3, hf⟩ := ob1_e hf
      refine g_iald hx hb hK hW mA0 hv3 dX3_voteOf_62 ?_
      refine lv_iconst (v := 2) hx hb dX3_voteOf_63 (by decide) ?_
      obtain ⟨v4, hm4, hf⟩ := ob1_e hf
      refine w_cutL (nL := 7) (L := [(0, .ref (ad 99)), (1, .int u1), (2, .int u2), (3, .int u3), (4, .int u4), (6, .int x6)]) (pcj := 106) (st := [.int v4, .int x5]) (fun ls hl => ?_) (fun K4 => ?_)
      · refine lv_iadd hx hb dX3_voteOf_106 ?_
        refine lv_istore (lv' := [(5, .int (x5 + v4)), (0, .ref (ad 99)), (1, .int u1), (2, .int u2), (3, .int u3), (4, .int u4), (6, .int x6)]) hx hb dX3_voteOf_107 hl (by decide) rfl (fun ls hl => ?_)
        refine lv_iinc (v := x6 + 1) (lv' := [(6, .int (x6 + 1)), (5, .int (x5 + v4)), (0, .ref (ad 99)), (1, .int u1), (2, .int u2), (3, .int u3), (4, .int u4)]) hx hb dX3_voteOf_109 hl (k := 6) rfl (by rfl) (by decide) rfl (fun ls hl => ?_)
        refine lv_goto (tgt := 39) hx hb dX3_voteOf_112 (by decide) ?_
        exact ih (x5 + v4) (x6 + 1) ls hf (lv_sub hl [2, 3, 4, 5, 6, 1, 0] rfl)
      · refine lv_icmp_ne (tgt := 105) hx hb dX3_voteOf_64 (by decide) (fun c5 => ?_) (fun c5 => ?_)
        · rw [if_neg c5] at hm4
          refine lv_iconst (v := 0) hx hb dX3_voteOf_105 (by decide) ?_
          obtain rfl := so1 hm4
          exact K4 ls (lv_sub hl [0, 1, 2, 3, 4, 6] rfl)
        · rw [if_pos c5] at hm4
          refine lv_aload_n hx hb dX3_voteOf_67 rfl (lv_at hl 0 rfl) ?_
          refine g_get (v := .ref (ad 0)) hx hb hts hown hK hW mO in_X3 rfl 0 (by decide) q1212 rfl rfl dX3_voteOf_68 ?_
          refine lv_bipush (v := 25) hx hb dX3_voteOf_71 (by decide) ?_
          refine lv_iload hx hb dX3_voteOf_73 (lv_at hl 6 rfl) ?_
          refine lv_iadd hx hb dX3_voteOf_75 ?_
          obtain ⟨v6, hv6, hm4⟩ := ob1_e hm4
          refine g_iald hx hb hK hW mA0 hv6 dX3_voteOf_76 ?_
          refine lv_iload hx hb dX3_voteOf_77 (lv_at hl 4 rfl) ?_
          refine lv_icmp_ne (tgt := 105) hx hb dX3_voteOf_79 (by decide) (fun c7 => ?_) (fun c7 => ?_)
          · rw [if_neg c7] at hm4
            refine lv_iconst (v := 0) hx hb dX3_voteOf_105 (by decide) ?_
            obtain rfl := so1 hm4
            exact K4 ls (lv_sub hl [0, 1, 2, 3, 4, 6] rfl)
          · rw [if_pos c7] at hm4
            refine lv_aload_n hx hb dX3_voteOf_82 rfl (lv_at hl 0 rfl) ?_
            refine g_get (v := .ref (ad 0)) hx hb hts hown hK hW mO in_X3 rfl 0 (by decide) q1212 rfl rfl dX3_voteOf_83 ?_
            refine lv_bipush (v := 33) hx hb dX3_voteOf_86 (by decide) ?_
            refine lv_iload hx hb dX3_voteOf_88 (lv_at hl 6 rfl) ?_
            refine lv_iadd hx hb dX3_voteOf_90 ?_
            obtain ⟨v8, hv8, hm4⟩ := ob1_e hm4
            refine g_iald hx hb hK hW mA0 hv8 dX3_voteOf_91 ?_
            refine lv_iload_n hx hb dX3_voteOf_92 rfl (lv_at hl 1 rfl) ?_
            refine lv_icmp_ne (tgt := 105) hx hb dX3_voteOf_93 (by decide) (fun c9 => ?_) (fun c9 => ?_)
            · rw [if_neg c9] at hm4
              refine lv_iconst (v := 0) hx hb dX3_voteOf_105 (by decide) ?_
              obtain rfl := so1 hm4
              exact K4 ls (lv_sub hl [0, 1, 2, 3, 4, 6] rfl)
            · rw [if_pos c9] at hm4
              refine lv_aload_n hx hb dX3_voteOf_96 rfl (lv_at hl 0 rfl) ?_
              refine lv_iload hx hb dX3_voteOf_97 (lv_at hl 6 rfl) ?_
              obtain ⟨v10, h10, hm4⟩ := ob1_e hm4
              refine g_vR (ov := some (.int v10)) (D := D) (Sc := mS) (adc := ad) (Ic := I) (Ac := A) (Rc := nR) (Gc := nG) (As := [.int x6]) (rest := [.int x5]) (b := ad 99) (C := RX3) ⟨hx, hb, hml, hown, hts⟩ (m_poundsOf_met l D ad I A x6 v10 h10) (g_cwV 1 hts (lw_V q1413 q1415 qs50 q82 q1416) rfl rfl m_poundsOf_ds ⟨Nat.le_trans (Nat.le_of_ble_eq_true rfl) hRf, Nat.le_trans (Nat.le_of_ble_eq_true rfl) hRl⟩) (g_recv hK hW mO rfl) hK hW hcs rfl hl.1 rfl (Nat.le_of_ble_eq_true rfl) dX3_voteOf_99 ?_
              refine lv_goto (tgt := 106) hx hb dX3_voteOf_102 (by decide) ?_
              obtain rfl := so1 hm4
              exact K4 ls (lv_sub hl [0, 1, 2, 3, 4, 6] rfl)
def m_voteOf_L8 (I : Nat → Int32) (A : Nat → Nat → Int32) (u1 : Int32) : Nat → Int32 → Int32 → Int32 → Option (Int32 × Int32 × Int32)
  | 0, _, _, _ => none
  | n + 1, x2, x3, x4 =>
    ob1 (ldO (A 0) 2044 6) fun (v1 : Int32) =>
    if v1 ≤ x4 then (some (x2, x3, x4)) else (ob1 (ldO (A 0) 2044 (10 + u1)) fun (v3 : Int32) =>
      if v3 = 2 then (some (x2, x3, x4)) else (ob2 (m_voteOf_L39 I A u1 x2 x3 x4 NF 0 0) fun (v5 : Int32) (v6 : Int32) =>
        ob1 (if v5 ≤ x3 then ((some x2 : Option (Int32))) else ((some x4 : Option (Int32)))) fun (v7 : Int32) =>
        ob1 (if v5 ≤ x3 then ((some x3 : Option (Int32))) else ((some v5 : Option (Int32)))) fun (v9 : Int32) =>
        m_voteOf_L8 I A u1 n v7 v9 (x4 + 1)))
set_option maxRecDepth 100000 in
set_option maxHeartbeats 4000000 in
theorem m_voteOf_L8_w {p : Program} {l : Launch} {e : Env} {R0 : Room} {s : State} {m : MethodId} {args : Array Value} {below : List Frame} {meth : Method} {c : Code} {cells slots : Nat} {Q : State → Prop} {D : dd_} {ad : Nat → Nat} (hx : p.tables.exec = Jvm.exec) (hb : c.code = cX3_voteOf) (hml : c.maxLocals = 7) (hown : s.vm.findClass RX3 = some m.cls) (hts : ∀ w ∈ lw_all, w.before args s = true) (hK : Kx D s) (hRf : 3 ≤ R0.frames) (hRl : 59 ≤ R0.locals) (hcs : cells ≤ R0.cells ∧ slots ≤ R0.slots) {H : Heap} {locs : List Loc} (I : Nat → Int32) (A : Nat → Nat → Int32) (u1 : Int32) (hW : WH D mS ad I A nR nG H) (y2 : Int32) (y3 : Int32) (y4 : Int32) (KX : ∀ (ls : Array Slot), lv_has ls 7 [(2, .int y2)] → W p l e R0 s m args below meth c H locs cells slots Q (F0 m 147 ls [])) : ∀ (n : Nat) (x2 : Int32) (x3 : Int32) (x4 : Int32) (ls : Array Slot), m_voteOf_L8 I A u1 n x2 x3 x4 = some (y2, y3, y4) → lv_has ls 7 [(0, .ref (ad 99)), (1, .int u1), (2, .int x2), (3, .int x3), (4, .int x4)] → W p l e R0 s m args below meth c H locs cells slots Q (F0 m 8 ls []) := by
  intro n
  induction n with
  | zero =>
    intro x2 x3 x4 ls hf
    exact nomatch (show (none : Option (Int32 × Int32 × Int32)) = some (y2, y3, y4) from hf)
  | succ n ih =>
    intro x2 x3 x4 ls hf hl
    have hf : (ob1 (ldO (A 0) 2044 6) fun (v1 : Int32) =>
        if v1 ≤ x4 then (some (x2, x3, x4)) else (ob1 (ldO (A 0) 2044 (10 + u1)) fun (v3 : Int32) =>
          if v3 = 2 then (some (x2, x3, x4)) else (ob2 (m_voteOf_L39 I A u1 x2 x3 x4 NF 0 0) fun (v5 : Int32) (v6 : Int32) =>
            ob1 (if v5 ≤ x3 then ((some x2 : Option (Int32))) else ((some x4 : Option (Int32)))) fun (v7 : Int32) =>
            ob1 (if v5 ≤ x3 then ((some x3 : Option (Int32))) else ((some v5 : Option (Int32)))) fun (v9 : Int32) =>
            m_voteOf_L8 I A u1 n v7 v9 (x4 + 1)))) = some (y2, y3, y4) := hf
    refine lv_iload hx hb dX3_voteOf_8 (lv_at hl 4 rfl) ?_
    refine lv_aload_n hx hb dX3_voteOf_10 rfl (lv_at hl 0 rfl) ?_
    refine g_get (v := .ref (ad 0)) hx hb hts hown hK hW mO in_X3 rfl 0 (by decide) q1212 rfl rfl dX3_voteOf_11 ?_
    refine lv_bipush (v := 6) hx hb dX3_voteOf_14 (by decide) ?_
    obtain ⟨v1, hv1, hf⟩ := ob1_e hf
    refine g_iald hx hb hK hW mA0 hv1 dX3_voteOf_16 ?_
    refine lv_icmp_ge (tgt := 147) hx hb dX3_voteOf_17 (by decide) (fun c2 => ?_) (fun c2 => ?_)
    · rw [if_pos c2] at hf
      obtain ⟨rfl, rfl, rfl⟩ := so3 hf
      exact KX ls (lv_sub hl [2] rfl)
    · rw [if_neg c2] at hf
      refine lv_aload_n hx hb dX3_voteOf_20 rfl (lv_at hl 0 rfl) ?_
      refine g_get (v := .ref (ad 0)) hx hb hts hown hK hW mO in_X3 rfl 0 (by decide) q1212 rfl rfl dX3_voteOf_21 ?_
      refine lv_bipush (v := 10) hx hb dX3_voteOf_24 (by decide) ?_
      refine lv_iload_n hx hb dX3_voteOf_26 rfl (lv_at hl 1 rfl) ?_
      refine lv_iadd hx hb dX3_voteOf_27 ?_
      obtain ⟨v3, hv3, hf⟩ := ob1_e hf
      refine g_iald hx hb hK hW mA0 hv3 dX3_voteOf_28 ?_
      refine lv_iconst (v := 2) hx hb dX3_voteOf_29 (by decide) ?_
      refine lv_icmp_eq (tgt := 147) hx hb dX3_voteOf_30 (by decide) (fun c4 => ?_) (fun c4 => ?_)
      · rw [if_pos c4] at hf
        obtain ⟨rfl, rfl, rfl⟩ := so3 hf
        exact KX ls (lv_sub hl [2] rfl)
      · rw [if_neg c4] at hf
        refine lv_iconst (v := 0) hx hb dX3_voteOf_33 (by decide) ?_
        refine lv_istore (lv' := [(5, .int 0), (0, .ref (ad 99)), (1, .int u1), (2, .int x2), (3, .int x3), (4, .int x4)]) hx hb dX3_voteOf_34 hl (by decide) rfl (fun ls hl => ?_)
        refine lv_iconst (v := 0) hx hb dX3_voteOf_36 (by decide) ?_
        refine lv_istore (lv' := [(6, .int 0), (5, .int 0), (0, .ref (ad 99)), (1, .int u1), (2, .int x2), (3, .int x3), (4, .int x4)]) hx hb dX3_voteOf_37 hl (by decide) rfl (fun ls hl => ?_)
        obtain ⟨v5, v6, hq6, hf⟩ := ob2_e hf
        refine m_voteOf_L39_w hx hb hml hown hts hK hRf hRl hcs I A u1 x2 x3 x4 hW v5 v6 (fun ls hl => ?_) NF 0 0 ls hq6 (lv_sub hl [2, 3, 4, 5, 6, 1, 0] rfl)
        refine lv_iload hx hb dX3_voteOf_115 (lv_at hl 5 rfl) ?_
        refine lv_iload_n hx hb dX3_voteOf_117 rfl (lv_at hl 3 rfl) ?_
        obtain ⟨v7, hm7, hf⟩ := ob1_e hf
        refine w_cutL (nL := 7) (L := [(0, .ref (ad 99)), (1, .int u1), (3, .int x3), (4, .int x4), (5, .int v5)]) (pcj := 127) (st := [.int v7]) (fun ls hl => ?_) (fun K7 => ?_)
        · refine lv_istore_n (lv' := [(2, .int v7), (0, .ref (ad 99)), (1, .int u1), (3, .int x3), (4, .int x4), (5, .int v5)]) hx hb dX3_voteOf_127 rfl hl (by decide) rfl (fun ls hl => ?_)
          refine lv_iload hx hb dX3_voteOf_128 (lv_at hl 5 rfl) ?_
          refine lv_iload_n hx hb dX3_voteOf_130 rfl (lv_at hl 3 rfl) ?_
          obtain ⟨v9, hm9, hf⟩ := ob1_e hf
          refine w_cutL (nL := 7) (L := [(0, .ref (ad 99)), (1, .int u1), (2, .int v7), (4, .int x4)]) (pcj := 140) (st := [.int v9]) (fun ls hl => ?_) (fun K9 => ?_)
          · refine lv_istore_n (lv' := [(3, .int v9), (0, .ref (ad 99)), (1, .int u1), (2, .int v7), (4, .int x4)]) hx hb dX3_voteOf_140 rfl hl (by decide) rfl (fun ls hl => ?_)
            refine lv_iinc (v := x4 + 1) (lv' := [(4, .int (x4 + 1)), (3, .int v9), (0, .ref (ad 99)), (1, .int u1), (2, .int v7)]) hx hb dX3_voteOf_141 hl (k := 4) rfl (by rfl) (by decide) rfl (fun ls hl => ?_)
            refine lv_goto (tgt := 8) hx hb dX3_voteOf_144 (by decide) ?_
            exact ih v7 v9 (x4 + 1) ls hf (lv_sub hl [2, 3, 4, 1, 0] rfl)
          · refine lv_icmp_le (tgt := 139) hx hb dX3_voteOf_131 (by decide) (fun c10 => ?_) (fun c10 => ?_)
            · rw [if_pos c10] at hm9
              refine lv_iload_n hx hb dX3_voteOf_139 rfl (lv_at hl 3 rfl) ?_
              obtain rfl := so1 hm9
              exact K9 ls (lv_sub hl [1, 2, 0, 4] rfl)
            · rw [if_neg c10] at hm9
              refine lv_iload hx hb dX3_voteOf_134 (lv_at hl 5 rfl) ?_
              refine lv_goto (tgt := 140) hx hb dX3_voteOf_136 (by decide) ?_
              obtain rfl := so1 hm9
              exact K9 ls (lv_sub hl [1, 2, 0, 4] rfl)
        · refine lv_icmp_le (tgt := 126) hx hb dX3_voteOf_118 (by decide) (fun c8 => ?_) (fun c8 => ?_)
          · rw [if_pos c8] at hm7
            refine lv_iload_n hx hb dX3_voteOf_126 rfl (lv_at hl 2 rfl) ?_
            obtain rfl := so1 hm7
            exact K7 ls (lv_sub hl [0, 1, 3, 4, 5] rfl)
          · rw [if_neg c8] at hm7
            refine lv_iload hx hb dX3_voteOf_121 (lv_at hl 4 rfl) ?_
            refine lv_goto (tgt := 127) hx hb dX3_voteOf_123 (by decide) ?_
            obtain rfl := so1 hm7
            exact K7 ls (lv_sub hl [0, 1, 3, 4, 5] rfl)
def m_voteOf (I : Nat → Int32) (A : Nat → Nat → Int32) (a0 : Int32) : Option (Int32) :=
  ob3 (m_voteOf_L8 I A a0 NF (-1000000) 0 0) fun (v1 : Int32) (v2 : Int32) (v3 : Int32) =>
  some v1
set_option maxRecDepth 100000 in
set_option maxHeartbeats 4000000 in
theorem m_voteOf_met (l : Launch) (D : dd_) (ad : Nat → Nat) (I : Nat → Int32) (A : Nat → Nat → Int32) (a0 : Int32) (r : Int32) (hf : m_voteOf I A a0 = some r) : Met l yX3_voteOf (ws_ yX3_voteOf cX3_voteOf 7 (some .int)) ({ frames := 3, cells := 0, slots := 0, locals := 59 }) (PcW D mS ad I A nR nG [.ref (ad 99), .int a0]) (QcR (some (.int r))) 0 0 (fun _ => False) := by
  refine Met.ofW (cc := cX3_voteOf) (maxL := 7) (ret := (some .int)) (by decide) rfl ?_
  intro p e s m args below meth c s₁ B hml hv
  obtain ⟨rfl, hK, hW⟩ := hv
  have hx := B.exec
  have hb := B.bytes
  have hr := B.returns
  have hts := atoms_spec (ws := (ws_ yX3_voteOf cX3_voteOf 7 (some .int))) B.pre
  have hts : ∀ w ∈ lw_all, w.before _ s = true := fun w h => hts w (List.mem_cons_of_mem _ h)
  have hown : s.vm.findClass RX3 = some m.cls := findClass_of_methodNamed B.named
  have hlocks := B.notSynchronized
  have hRf : 3 ≤ (headSpec (ws_ yX3_voteOf cX3_voteOf 7 (some .int)) ({ frames := 3, cells := 0, slots := 0, locals := 59 })).room.frames := Nat.le_refl _
  have hRl : 59 ≤ (headSpec (ws_ yX3_voteOf cX3_voteOf 7 (some .int)) ({ frames := 3, cells := 0, slots := 0, locals := 59 })).room.locals := Nat.le_refl _
  have hcs : 0 ≤ (headSpec (ws_ yX3_voteOf cX3_voteOf 7 (some .int)) ({ frames := 3, cells := 0, slots := 0, locals := 59 })).room.cells ∧ 0 ≤ (headSpec (ws_ yX3_voteOf cX3_voteOf 7 (some .int)) ({ frames := 3, cells := 0, slots := 0, locals := 59 })).room.slots := ⟨Nat.zero_le _, Nat.zero_le _⟩
  have hl := lv_entry ([.ref (ad 99), .int a0]) (n := 7) (Nat.le_of_ble_eq_true rfl)
  rw [lg_entry_eq]
  generalize (lg_sl ([.ref (ad 99), .int a0]) ++ List.replicate (7 - (lg_sl ([.ref (ad 99), .int a0])).length) Slot.unset).toArray = ls at hl ⊢
  have hl : lv_has ls 7 [(0, .ref (ad 99)), (1, .int a0)] := hl
  have hf : (ob3 (m_voteOf_L8 I A a0 NF (-1000000) 0 0) fun (v1 : Int32) (v2 : Int32) (v3 : Int32) =>
    some v1) = some r := hf
  refine lv_ldc (v := (-1000000)) hx hb hown (hts _ q1492) dX3_voteOf_0 ?_
  refine lv_istore_n (lv' := [(2, .int (-1000000)), (0, .ref (ad 99)), (1, .int a0)]) hx hb dX3_voteOf_2 rfl hl (by decide) rfl (fun ls hl => ?_)
  refine lv_iconst (v := 0) hx hb dX3_voteOf_3 (by decide) ?_
  refine lv_istore_n (lv' := [(3, .int 0), (2, .int (-1000000)), (0, .ref (ad 99)), (1, .int a0)]) hx hb dX3_voteOf_4 rfl hl (by decide) rfl (fun ls hl => ?_)
  refine lv_iconst (v := 0) hx hb dX3_voteOf_5 (by decide) ?_
  refine lv_istore (lv' := [(4, .int 0), (3, .int 0), (2, .int (-1000000)), (0, .ref (ad 99)), (1, .int a0)]) hx hb dX3_voteOf_6 hl (by decide) rfl (fun ls hl => ?_)
  obtain ⟨v1, v2, v3, hq3, hf⟩ := ob3_e hf
  refine m_voteOf_L8_w hx hb hml hown hts hK hRf hRl hcs I A a0 hW v1 v2 v3 (fun ls hl => ?_) NF (-1000000) 0 0 ls hq3 (lv_sub hl [3, 4, 2, 1, 0] rfl)
  refine lv_iload_n hx hb dX3_voteOf_147 rfl (lv_at hl 0 rfl) ?_
  obtain rfl := so1 hf
  exact W.iret hx hb hr (fun t ht _ => ⟨rfl, ht⟩) (fun q hq => by cases hq) dX3_voteOf_148
theorem m_voteOf_ds : yX3_voteOf.cls = RX3 ∧ yX3_voteOf.cls ≠ "java/lang/invoke/MethodHandle" ∧ yX3_voteOf.cls ≠ "java/lang/invoke/VarHandle" ∧ (parseMethodDescriptor yX3_voteOf.desc).map (fun d => d.parameters.length) = some 1 := by decide +kernel
/-! votesFor -/
def m_votesFor_L4 (I : Nat → Int32) (A : Nat → Nat → Int32) (u1 : Int32) : Nat → Int32 → Int32 → Option (Int32 × Int32)
  | 0, _, _ => none
  | n + 1, x2, x3 =>
    ob1 (ldO (A 0) 2044 6) fun (v1 : Int32) =>
    if v1 ≤ x3 then (some (x2, x3)) else (ob1 (m_voteOf I A x3) fun (v3 : Int32) =>
      ob1 (if v3 = u1 then ((some 1 : Option (Int32))) else ((some 0 : Option (Int32)))) fun (v4 : Int32) =>
      m_votesFor_L4 I A u1 n (x2 + v4) (x3 + 1))
set_option maxRecDepth 100000 in
set_option maxHeartbeats 4000000 in
theorem m_votesFor_L4_w {p : Program} {l : Launch} {e : Env} {R0 : Room} {s : State} {m : MethodId} {args : Array Value} {below : List Frame} {meth : Method} {c : Code} {cells slots : Nat} {Q : State → Prop} {D : dd_} {ad : Nat → Nat} (hx : p.tables.exec = Jvm.exec) (hb : c.code = cX3_votesFor) (hml : c.maxLocals = 4) (hown : s.vm.findClass RX3 = some m.cls) (hts : ∀ w ∈ lw_all, w.before args s = true) (hK : Kx D s) (hRf : 4 ≤ R0.frames) (hRl : 85 ≤ R0.locals) (hcs : cells ≤ R0.cells ∧ slots ≤ R0.slots) {H : Heap} {locs : List Loc} (I : Nat → Int32) (A : Nat → Nat → Int32) (u1 : Int32) (hW : WH D mS ad I A nR nG H) (y2 : Int32) (y3 : Int32) (KX : ∀ (ls : Array Slot), lv_has ls 4 [(2, .int y2)] → W p l e R0 s m args below meth c H locs cells slots Q (F0 m 38 ls [])) : ∀ (n : Nat) (x2 : Int32) (x3 : Int32) (ls : Array Slot), m_votesFor_L4 I A u1 n x2 x3 = some (y2, y3) → lv_has ls 4 [(0, .ref (ad 99)), (1, .int u1), (2, .int x2), (3, .int x3)] → W p l e R0 s m args below meth c H locs cells slots Q (F0 m 4 ls []) := by
  intro n
  induction n with
  | zero =>
    intro x2 x3 ls hf
    exact nomatch (show (none : Option (Int32 × Int32)) = some (y2, y3) from hf)
  | succ n ih =>
    intro x2 x3 ls hf hl
    have hf : (ob1 (ldO (A 0) 2044 6) fun (v1 : Int32) =>
        if v1 ≤ x3 then (some (x2, x3)) else (ob1 (m_voteOf I A x3) fun (v3 : Int32) =>
          ob1 (if v3 = u1 then ((some 1 : Option (Int32))) else ((some 0 : Option (Int32)))) fun (v4 : Int32) =>
          m_votesFor_L4 I A u1 n (x2 + v4) (x3 + 1))) = some (y2, y3) := hf
    refine lv_iload_n hx hb dX3_votesFor_4 rfl (lv_at hl 3 rfl) ?_
    refine lv_aload_n hx hb dX3_votesFor_5 rfl (lv_at hl 0 rfl) ?_
    refine g_get (v := .ref (ad 0)) hx hb hts hown hK hW mO in_X3 rfl 0 (by decide) q1212 rfl rfl dX3_votesFor_6 ?_
    refine lv_bipush (v := 6) hx hb dX3_votesFor_9 (by decide) ?_
    obtain ⟨v1, hv1, hf⟩ := ob1_e hf
    refine g_iald hx hb hK hW mA0 hv1 dX3_votesFor_11 ?_
    refine lv_icmp_ge (tgt := 38) hx hb dX3_votesFor_12 (by decide) (fun c2 => ?_) (fun c2 => ?_)
    · rw [if_pos c2] at hf
      obtain ⟨rfl, rfl⟩ := so2 hf
      exact KX ls (lv_sub hl [2] rfl)
    · rw [if_neg c2] at hf
      refine lv_iload_n hx hb dX3_votesFor_15 rfl (lv_at hl 2 rfl) ?_
      refine lv_aload_n hx hb dX3_votesFor_16 rfl (lv_at hl 0 rfl) ?_
      refine lv_iload_n hx hb dX3_votesFor_17 rfl (lv_at hl 3 rfl) ?_
      obtain ⟨v3, h3, hf⟩ := ob1_e hf
      refine g_vR (ov := some (.int v3)) (D := D) (Sc := mS) (adc := ad) (Ic := I) (Ac := A) (Rc := nR) (Gc := nG) (As := [.int x3]) (rest := [.int x2]) (b := ad 99) (C := RX3) ⟨hx, hb, hml, hown, hts⟩ (m_voteOf_met l D ad I A x3 v3 h3) (g_cwV 1 hts (lw_V q1515 q1517 qs59 q82 q1518) rfl rfl m_voteOf_ds ⟨Nat.le_trans (Nat.le_of_ble_eq_true rfl) hRf, Nat.le_trans (Nat.le_of_ble_eq_true rfl) hRl⟩) (g_recv hK hW mO rfl) hK hW hcs rfl hl.1 rfl (Nat.le_of_ble_eq_true rfl) dX3_votesFor_18 ?_
      refine lv_iload_n hx hb dX3_votesFor_21 rfl (lv_at hl 1 rfl) ?_
      obtain ⟨v4, hm4, hf⟩ := ob1_e hf
      refine w_cutL (nL := 4) (L := [(0, .ref (ad 99)), (1, .int u1), (3, .int x3)]) (pcj := 30) (st := [.int v4, .int x2]) (fun ls hl => ?_) (fun K4 => ?_)
      · refine lv_iadd hx hb dX3_votesFor_30 ?_
        refine lv_istore_n (lv' := [(2, .int (x2 + v4)), (0, .ref (ad 99)), (1, .int u1), (3, .int x3)]) hx hb dX3_votesFor_31 rfl hl (by decide) rfl (fun ls hl => ?_)
        refine lv_iinc (v := x3 + 1) (lv' := [(3, .int (x3 + 1)), (2, .int (x2 + v4)), (0, .ref (ad 99)), (1, .int u1)]) hx hb dX3_votesFor_32 hl (k := 3) rfl (by rfl) (by decide) rfl (fun ls hl => ?_)
        refine lv_goto (tgt := 4) hx hb dX3_votesFor_35 (by decide) ?_
        exact ih (x2 + v4) (x3 + 1) ls hf (lv_sub hl [2, 3, 1, 0] rfl)
      · refine lv_icmp_ne (tgt := 29) hx hb dX3_votesFor_22 (by decide) (fun c5 => ?_) (fun c5 => ?_)
        · rw [if_neg c5] at hm4
          refine lv_iconst (v := 0) hx hb dX3_votesFor_29 (by decide) ?_
          obtain rfl := so1 hm4
          exact K4 ls (lv_sub hl [0, 1, 3] rfl)
        · rw [if_pos c5] at hm4
          refine lv_iconst (v := 1) hx hb dX3_votesFor_25 (by decide) ?_
          refine lv_goto (tgt := 30) hx hb dX3_votesFor_26 (by decide) ?_
          obtain rfl := so1 hm4
          exact K4 ls (lv_sub hl [0, 1, 3] rfl)
def m_votesFor (I : Nat → Int32) (A : Nat → Nat → Int32) (a0 : Int32) : Option (Int32) :=
  ob2 (m_votesFor_L4 I A a0 NF 0 0) fun (v1 : Int32) (v2 : Int32) =>
  some v1
set_option maxRecDepth 100000 in
set_option maxHeartbeats 4000000 in
theorem m_votesFor_met (l : Launch) (D : dd_) (ad : Nat → Nat) (I : Nat → Int32) (A : Nat → Nat → Int32) (a0 : Int32) (r : Int32) (hf : m_votesFor I A a0 = some r) : Met l yX3_votesFor (ws_ yX3_votesFor cX3_votesFor 4 (some .int)) ({ frames := 4, cells := 0, slots := 0, locals := 85 }) (PcW D mS ad I A nR nG [.ref (ad 99), .int a0]) (QcR (some (.int r))) 0 0 (fun _ => False) := by
  refine Met.ofW (cc := cX3_votesFor) (maxL := 4) (ret := (some .int)) (by decide) rfl ?_
  intro p e s m args below meth c s₁ B hml hv
  obtain ⟨rfl, hK, hW⟩ := hv
  have hx := B.exec
  have hb := B.bytes
  have hr := B.returns
  have hts := atoms_spec (ws := (ws_ yX3_votesFor cX3_votesFor 4 (some .int))) B.pre
  have hts : ∀ w ∈ lw_all, w.before _ s = true := fun w h => hts w (List.mem_cons_of_mem _ h)
  have hown : s.vm.findClass RX3 = some m.cls := findClass_of_methodNamed B.named
  have hlocks := B.notSynchronized
  have hRf : 4 ≤ (headSpec (ws_ yX3_votesFor cX3_votesFor 4 (some .int)) ({ frames := 4, cells := 0, slots := 0, locals := 85 })).room.frames := Nat.le_refl _
  have hRl : 85 ≤ (headSpec (ws_ yX3_votesFor cX3_votesFor 4 (some .int)) ({ frames := 4, cells := 0, slots := 0, locals := 85 })).room.locals := Nat.le_refl _
  have hcs : 0 ≤ (headSpec (ws_ yX3_votesFor cX3_votesFor 4 (some .int)) ({ frames := 4, cells := 0, slots := 0, locals := 85 })).room.cells ∧ 0 ≤ (headSpec (ws_ yX3_votesFor cX3_votesFor 4 (some .int)) ({ frames := 4, cells := 0, slots := 0, locals := 85 })).room.slots := ⟨Nat.zero_le _, Nat.zero_le _⟩
  have hl := lv_entry ([.ref (ad 99), .int a0]) (n := 4) (Nat.le_of_ble_eq_true rfl)
  rw [lg_entry_eq]
  generalize (lg_sl ([.ref (ad 99), .int a0]) ++ List.replicate (4 - (lg_sl ([.ref (ad 99), .int a0])).length) Slot.unset).toArray = ls at hl ⊢
  have hl : lv_has ls 4 [(0, .ref (ad 99)), (1, .int a0)] := hl
  have hf : (ob2 (m_votesFor_L4 I A a0 NF 0 0) fun (v1 : Int32) (v2 : Int32) =>
    some v1) = some r := hf
  refine lv_iconst (v := 0) hx hb dX3_votesFor_0 (by decide) ?_
  refine lv_istore_n (lv' := [(2, .int 0), (0, .ref (ad 99)), (1, .int a0)]) hx hb dX3_votesFor_1 rfl hl (by decide) rfl (fun ls hl => ?_)
  refine lv_iconst (v := 0) hx hb dX3_votesFor_2 (by decide) ?_
  refine lv_istore_n (lv' := [(3, .int 0), (2, .int 0), (0, .ref (ad 99)), (1, .int a0)]) hx hb dX3_votesFor_3 rfl hl (by decide) rfl (fun ls hl => ?_)
  obtain ⟨v1, v2, hq2, hf⟩ := ob2_e hf
  refine m_votesFor_L4_w hx hb hml hown hts hK hRf hRl hcs I A a0 hW v1 v2 (fun ls hl => ?_) NF 0 0 ls hq2 (lv_sub hl [2, 3, 1, 0] rfl)
  refine lv_iload_n hx hb dX3_votesFor_38 rfl (lv_at hl 0 rfl) ?_
  obtain rfl := so1 hf
  exact W.iret hx hb hr (fun t ht _ => ⟨rfl, ht⟩) (fun q hq => by cases hq) dX3_votesFor_39
theorem m_votesFor_ds : yX3_votesFor.cls = RX3 ∧ yX3_votesFor.cls ≠ "java/lang/invoke/MethodHandle" ∧ yX3_votesFor.cls ≠ "java/lang/invoke/VarHandle" ∧ (parseMethodDescriptor yX3_votesFor.desc).map (fun d => d.parameters.length) = some 1 := by decide +kernel
/-! votes -/
def m_votes (I : Nat → Int32) (A : Nat → Nat → Int32) (a0 : Int32) : Option (Int32) :=
  ob1 (m_isPerson I A a0) fun (v1 : Int32) =>
  ob1 (if v1 = 0 then ((some (-1000001) : Option (Int32))) else (ob1 (ldO (A 0) 2044 (10 + a0)) fun (v4 : Int32) =>
      if v4 = 2 then (ob1 (m_votesFor I A a0) fun (v6 : Int32) =>
        (some v6 : Option (Int32))) else ((some (-1000001) : Option (Int32))))) fun (v2 : Int32) =>
  some v2
set_option maxRecDepth 100000 in
set_option maxHeartbeats 4000000 in
theorem m_votes_met (l : Launch) (D : dd_) (ad : Nat → Nat) (I : Nat → Int32) (A : Nat → Nat → Int32) (a0 : Int32) (r : Int32) (hf : m_votes I A a0 = some r) : Met l yX3_votes (ws_ yX3_votes cX3_votes 2 (some .int)) ({ frames := 5, cells := 0, slots := 0, locals := 108 }) (PcW D mS ad I A nR nG [.ref (ad 99), .int a0]) (QcR (some (.int r))) 0 0 (fun _ => False) := by
  refine Met.ofW (cc := cX3_votes) (maxL := 2) (ret := (some .int)) (by decide) rfl ?_
  intro p e s m args below meth c s₁ B hml hv
  obtain ⟨rfl, hK, hW⟩ := hv
  have hx := B.exec
  have hb := B.bytes
  have hr := B.returns
  have hts := atoms_spec (ws := (ws_ yX3_votes cX3_votes 2 (some .int))) B.pre
  have hts : ∀ w ∈ lw_all, w.before _ s = true := fun w h => hts w (List.mem_cons_of_mem _ h)
  have hown : s.vm.findClass RX3 = some m.cls := findClass_of_methodNamed B.named
  have hlocks := B.notSynchronized
  have hRf : 5 ≤ (headSpec (ws_ yX3_votes cX3_votes 2 (some .int)) ({ frames := 5, cells := 0, slots := 0, locals := 108 })).room.frames := Nat.le_refl _
  have hRl : 108 ≤ (headSpec (ws_ yX3_votes cX3_votes 2 (some .int)) ({ frames := 5, cells := 0, slots := 0, locals := 108 })).room.locals := Nat.le_refl _
  have hcs : 0 ≤ (headSpec (ws_ yX3_votes cX3_votes 2 (some .int)) ({ frames := 5, cells := 0, slots := 0, locals := 108 })).room.cells ∧ 0 ≤ (headSpec (ws_ yX3_votes cX3_votes 2 (some .int)) ({ frames := 5, cells := 0, slots := 0, locals := 108 })).room.slots := ⟨Nat.zero_le _, Nat.zero_le _⟩
  have hl := lv_entry ([.ref (ad 99), .int a0]) (n := 2) (Nat.le_of_ble_eq_true rfl)
  rw [lg_entry_eq]
  generalize (lg_sl ([.ref (ad 99), .int a0]) ++ List.replicate (2 - (lg_sl ([.ref (ad 99), .int a0])).length) Slot.unset).toArray = ls at hl ⊢
  have hl : lv_has ls 2 [(0, .ref (ad 99)), (1, .int a0)] := hl
  have hf : (ob1 (m_isPerson I A a0) fun (v1 : Int32) =>
    ob1 (if v1 = 0 then ((some (-1000001) : Option (Int32))) else (ob1 (ldO (A 0) 2044 (10 + a0)) fun (v4 : Int32) =>
        if v4 = 2 then (ob1 (m_votesFor I A a0) fun (v6 : Int32) =>
          (some v6 : Option (Int32))) else ((some (-1000001) : Option (Int32))))) fun (v2 : Int32) =>
    some v2) = some r := hf
  refine lv_aload_n hx hb dX3_votes_0 rfl (lv_at hl 0 rfl) ?_
  refine lv_iload_n hx hb dX3_votes_1 rfl (lv_at hl 1 rfl) ?_
  obtain ⟨v1, h1, hf⟩ := ob1_e hf
  refine g_vR (ov := some (.int v1)) (D := D) (Sc := mS) (adc := ad) (Ic := I) (Ac := A) (Rc := nR) (Gc := nG) (As := [.int a0]) (rest := []) (b := ad 99) (C := RX3) ⟨hx, hb, hml, hown, hts⟩ (m_isPerson_met l D ad I A a0 v1 h1) (g_cwV 1 hts (lw_V q1396 q1398 qs46 q82 q1399) rfl rfl m_isPerson_ds ⟨Nat.le_trans (Nat.le_of_ble_eq_true rfl) hRf, Nat.le_trans (Nat.le_of_ble_eq_true rfl) hRl⟩) (g_recv hK hW mO rfl) hK hW hcs rfl hl.1 rfl (Nat.le_of_ble_eq_true rfl) dX3_votes_2 ?_
  obtain ⟨v2, hm2, hf⟩ := ob1_e hf
  refine w_cutL (nL := 2) (L := []) (pcj := 31) (st := [.int v2]) (fun ls hl => ?_) (fun K2 => ?_)
  · obtain rfl := so1 hf
    exact W.iret hx hb hr (fun t ht _ => ⟨rfl, ht⟩) (fun q hq => by cases hq) dX3_votes_31
  · refine lv_if_eq (tgt := 29) hx hb dX3_votes_5 (by decide) (fun c3 => ?_) (fun c3 => ?_)
    · rw [if_pos c3] at hm2
      refine lv_ldc (v := (-1000001)) hx hb hown (hts _ q1298) dX3_votes_29 ?_
      obtain rfl := so1 hm2
      exact K2 ls (lv_sub hl [] rfl)
    · rw [if_neg c3] at hm2
      refine lv_aload_n hx hb dX3_votes_8 rfl (lv_at hl 0 rfl) ?_
      refine g_get (v := .ref (ad 0)) hx hb hts hown hK hW mO in_X3 rfl 0 (by decide) q1212 rfl rfl dX3_votes_9 ?_
      refine lv_bipush (v := 10) hx hb dX3_votes_12 (by decide) ?_
      refine lv_iload_n hx hb dX3_votes_14 rfl (lv_at hl 1 rfl) ?_
      refine lv_iadd hx hb dX3_votes_15 ?_
      obtain ⟨v4, hv4, hm2⟩ := ob1_e hm2
      refine g_iald hx hb hK hW mA0 hv4 dX3_votes_16 ?_
      refine lv_iconst (v := 2) hx hb dX3_votes_17 (by decide) ?_
      refine lv_icmp_ne (tgt := 29) hx hb dX3_votes_18 (by decide) (fun c5 => ?_) (fun c5 => ?_)
      · rw [if_neg c5] at hm2
        refine lv_ldc (v := (-1000001)) hx hb hown (hts _ q1298) dX3_votes_29 ?_
        obtain rfl := so1 hm2
        exact K2 ls (lv_sub hl [] rfl)
      · rw [if_pos c5] at hm2
        refine lv_aload_n hx hb dX3_votes_21 rfl (lv_at hl 0 rfl) ?_
        refine lv_iload_n hx hb dX3_votes_22 rfl (lv_at hl 1 rfl) ?_
        obtain ⟨v6, h6, hm2⟩ := ob1_e hm2
        refine g_vR (ov := some (.int v6)) (D := D) (Sc := mS) (adc := ad) (Ic := I) (Ac := A) (Rc := nR) (Gc := nG) (As := [.int a0]) (rest := []) (b := ad 99) (C := RX3) ⟨hx, hb, hml, hown, hts⟩ (m_votesFor_met l D ad I A a0 v6 h6) (g_cwV 1 hts (lw_V q1511 q1513 qs58 q82 q1514) rfl rfl m_votesFor_ds ⟨Nat.le_trans (Nat.le_of_ble_eq_true rfl) hRf, Nat.le_trans (Nat.le_of_ble_eq_true rfl) hRl⟩) (g_recv hK hW mO rfl) hK hW hcs rfl hl.1 rfl (Nat.le_of_ble_eq_true rfl) dX3_votes_23 ?_
        refine lv_goto (tgt := 31) hx hb dX3_votes_26 (by decide) ?_
        obtain rfl := so1 hm2
        exact K2 ls (lv_sub hl [] rfl)
theorem m_votes_ds : yX3_votes.cls = RX3 ∧ yX3_votes.cls ≠ "java/lang/invoke/MethodHandle" ∧ yX3_votes.cls ≠ "java/lang/invoke/VarHandle" ∧ (parseMethodDescriptor yX3_votes.desc).map (fun d => d.parameters.length) = some 1 := by decide +kernel
/-! wins -/
def m_wins_L17 (I : Nat → Int32) (A : Nat → Nat → Int32) : Nat → Int32 → Int32 → Int32 → Option (Int32 × Int32 × Int32)
  | 0, _, _, _ => none
  | n + 1, x1, x2, x3 =>
    ob1 (ldO (A 0) 2044 6) fun (v1 : Int32) =>
    if v1 ≤ x3 then (some (x1, x2, x3)) else (ob1 (ldO (A 0) 2044 (10 + x3)) fun (v3 : Int32) =>
      ob1 (if v3 = 2 then (ob1 (m_isCrushed I A x3) fun (v6 : Int32) =>
          if v6 = 0 then (ob1 (m_votesFor I A x3) fun (v8 : Int32) =>
            (some v8 : Option (Int32))) else ((some (-1) : Option (Int32)))) else ((some (-1) : Option (Int32)))) fun (v4 : Int32) =>
      ob1 (if v4 ≤ x2 then ((some x1 : Option (Int32))) else ((some x3 : Option (Int32)))) fun (v9 : Int32) =>
      ob1 (if v4 ≤ x2 then ((some x2 : Option (Int32))) else ((some v4 : Option (Int32)))) fun (v11 : Int32) =>
      m_wins_L17 I A n v9 v11 (x3 + 1))
set_option maxRecDepth 100000 in
set_option maxHeartbeats 4000000 in
theorem m_wins_L17_w {p : Program} {l : Launch} {e : Env} {R0 : Room} {s : State} {m : MethodId} {args : Array Value} {below : List Frame} {meth : Method} {c : Code} {cells slots : Nat} {Q : State → Prop} {D : dd_} {ad : Nat → Nat} (hx : p.tables.exec = Jvm.exec) (hb : c.code = cX3_wins) (hml : c.maxLocals = 5) (hown : s.vm.findClass RX3 = some m.cls) (hts : ∀ w ∈ lw_all, w.before args s = true) (hK : Kx D s) (hRf : 5 ≤ R0.frames) (hRl : 108 ≤ R0.locals) (hcs : cells ≤ R0.cells ∧ slots ≤ R0.slots) {H : Heap} {locs : List Loc} (I : Nat → Int32) (A : Nat → Nat → Int32) (hW : WH D mS ad I A nR nG H) (y1 : Int32) (y2 : Int32) (y3 : Int32) (KX : ∀ (ls : Array Slot), lv_has ls 5 [(1, .int y1)] → W p l e R0 s m args below meth c H locs cells slots Q (F0 m 91 ls [])) : ∀ (n : Nat) (x1 : Int32) (x2 : Int32) (x3 : Int32) (ls : Array Slot), m_wins_L17 I A n x1 x2 x3 = some (y1, y2, y3) → lv_has ls 5 [(0, .ref (ad 99)), (1, .int x1), (2, .int x2), (3, .int x3)] → W p l e R0 s m args below meth c H locs cells slots Q (F0 m 17 ls []) := by
  intro n
  induction n with
  | zero =>
    intro x1 x2 x3 ls hf
    exact nomatch (show (none : Option (Int32 × Int32 × Int32)) = some (y1, y2, y3) from hf)
  | succ n ih =>
    intro x1 x2 x3 ls hf hl
    have hf : (ob1 (ldO (A 0) 2044 6) fun (v1 : Int32) =>
        if v1 ≤ x3 then (some (x1, x2, x3)) else (ob1 (ldO (A 0) 2044 (10 + x3)) fun (v3 : Int32) =>
          ob1 (if v3 = 2 then (ob1 (m_isCrushed I A x3) fun (v6 : Int32) =>
              if v6 = 0 then (ob1 (m_votesFor I A x3) fun (v8 : Int32) =>
                (some v8 : Option (Int32))) else ((some (-1) : Option (Int32)))) else ((some (-1) : Option (Int32)))) fun (v4 : Int32) =>
          ob1 (if v4 ≤ x2 then ((some x1 : Option (Int32))) else ((some x3 : Option (Int32)))) fun (v9 : Int32) =>
          ob1 (if v4 ≤ x2 then ((some x2 : Option (Int32))) else ((some v4 : Option (Int32)))) fun (v11 : Int32) =>
          m_wins_L17 I A n v9 v11 (x3 + 1))) = some (y1, y2, y3) := hf
    refine lv_iload_n hx hb dX3_wins_17 rfl (lv_at hl 3 rfl) ?_
    refine lv_aload_n hx hb dX3_wins_18 rfl (lv_at hl 0 rfl) ?_
    refine g_get (v := .ref (ad 0)) hx hb hts hown hK hW mO in_X3 rfl 0 (by decide) q1212 rfl rfl dX3_wins_19 ?_
    refine lv_bipush (v := 6) hx hb dX3_wins_22 (by decide) ?_
    obtain ⟨v1, hv1, hf⟩ := ob1_e hf
    refine g_iald hx hb hK hW mA0 hv1 dX3_wins_24 ?_
    refine lv_icmp_ge (tgt := 91) hx hb dX3_wins_25 (by decide) (fun c2 => ?_) (fun c2 => ?_)
    · rw [if_pos c2] at hf
      obtain ⟨rfl, rfl, rfl⟩ := so3 hf
      exact KX ls (lv_sub hl [1] rfl)
    · rw [if_neg c2] at hf
      refine lv_aload_n hx hb dX3_wins_28 rfl (lv_at hl 0 rfl) ?_
      refine g_get (v := .ref (ad 0)) hx hb hts hown hK hW mO in_X3 rfl 0 (by decide) q1212 rfl rfl dX3_wins_29 ?_
      refine lv_bipush (v := 10) hx hb dX3_wins_32 (by decide) ?_
      refine lv_iload_n hx hb dX3_wins_34 rfl (lv_at hl 3 rfl) ?_
      refine lv_iadd hx hb dX3_wins_35 ?_
      obtain ⟨v3, hv3, hf⟩ := ob1_e hf
      refine g_iald hx hb hK hW mA0 hv3 dX3_wins_36 ?_
      refine lv_iconst (v := 2) hx hb dX3_wins_37 (by decide) ?_
      obtain ⟨v4, hm4, hf⟩ := ob1_e hf
      refine w_cutL (nL := 5) (L := [(0, .ref (ad 99)), (1, .int x1), (2, .int x2), (3, .int x3)]) (pcj := 58) (st := [.int v4]) (fun ls hl => ?_) (fun K4 => ?_)
      · refine lv_istore (lv' := [(4, .int v4), (0, .ref (ad 99)), (1, .int x1), (2, .int x2), (3, .int x3)]) hx hb dX3_wins_58 hl (by decide) rfl (fun ls hl => ?_)
        refine lv_iload hx hb dX3_wins_60 (lv_at hl 0 rfl) ?_
        refine lv_iload_n hx hb dX3_wins_62 rfl (lv_at hl 3 rfl) ?_
        obtain ⟨v9, hm9, hf⟩ := ob1_e hf
        refine w_cutL (nL := 5) (L := [(0, .ref (ad 99)), (2, .int x2), (3, .int x3), (4, .int v4)]) (pcj := 71) (st := [.int v9]) (fun ls hl => ?_) (fun K9 => ?_)
        · refine lv_istore_n (lv' := [(1, .int v9), (0, .ref (ad 99)), (2, .int x2), (3, .int x3), (4, .int v4)]) hx hb dX3_wins_71 rfl hl (by decide) rfl (fun ls hl => ?_)
          refine lv_iload hx hb dX3_wins_72 (lv_at hl 4 rfl) ?_
          refine lv_iload_n hx hb dX3_wins_74 rfl (lv_at hl 2 rfl) ?_
          obtain ⟨v11, hm11, hf⟩ := ob1_e hf
          refine w_cutL (nL := 5) (L := [(0, .ref (ad 99)), (1, .int v9), (3, .int x3)]) (pcj := 84) (st := [.int v11]) (fun ls hl => ?_) (fun K11 => ?_)
          · refine lv_istore_n (lv' := [(2, .int v11), (0, .ref (ad 99)), (1, .int v9), (3, .int x3)]) hx hb dX3_wins_84 rfl hl (by decide) rfl (fun ls hl => ?_)
            refine lv_iinc (v := x3 + 1) (lv' := [(3, .int (x3 + 1)), (2, .int v11), (0, .ref (ad 99)), (1, .int v9)]) hx hb dX3_wins_85 hl (k := 3) rfl (by rfl) (by decide) rfl (fun ls hl => ?_)
            refine lv_goto (tgt := 17) hx hb dX3_wins_88 (by decide) ?_
            exact ih v9 v11 (x3 + 1) ls hf (lv_sub hl [2, 3, 1, 0] rfl)
          · refine lv_icmp_le (tgt := 83) hx hb dX3_wins_75 (by decide) (fun c12 => ?_) (fun c12 => ?_)
            · rw [if_pos c12] at hm11
              refine lv_iload_n hx hb dX3_wins_83 rfl (lv_at hl 2 rfl) ?_
              obtain rfl := so1 hm11
              exact K11 ls (lv_sub hl [1, 0, 3] rfl)
            · rw [if_neg c12] at hm11
              refine lv_iload hx hb dX3_wins_78 (lv_at hl 4 rfl) ?_
              refine lv_goto (tgt := 84) hx hb dX3_wins_80 (by decide) ?_
              obtain rfl := so1 hm11
              exact K11 ls (lv_sub hl [1, 0, 3] rfl)
        · refine lv_icmp_le (tgt := 70) hx hb dX3_wins_63 (by decide) (fun c10 => ?_) (fun c10 => ?_)
          · rw [if_pos c10] at hm9
            refine lv_iload_n hx hb dX3_wins_70 rfl (lv_at hl 2 rfl) ?_
            obtain rfl := so1 hm9
            exact K9 ls (lv_sub hl [1, 3, 4, 0] rfl)
          · rw [if_neg c10] at hm9
            refine lv_iload_n hx hb dX3_wins_66 rfl (lv_at hl 4 rfl) ?_
            refine lv_goto (tgt := 71) hx hb dX3_wins_67 (by decide) ?_
            obtain rfl := so1 hm9
            exact K9 ls (lv_sub hl [1, 3, 4, 0] rfl)
      · refine lv_icmp_ne (tgt := 57) hx hb dX3_wins_38 (by decide) (fun c5 => ?_) (fun c5 => ?_)
        · rw [if_neg c5] at hm4
          refine lv_iconst (v := (-1)) hx hb dX3_wins_57 (by decide) ?_
          obtain rfl := so1 hm4
          exact K4 ls (lv_sub hl [0, 1, 2, 3] rfl)
        · rw [if_pos c5] at hm4
          refine lv_aload_n hx hb dX3_wins_41 rfl (lv_at hl 0 rfl) ?_
          refine lv_iload_n hx hb dX3_wins_42 rfl (lv_at hl 3 rfl) ?_
          obtain ⟨v6, h6, hm4⟩ := ob1_e hm4
          refine g_vR (ov := some (.int v6)) (D := D) (Sc := mS) (adc := ad) (Ic := I) (Ac := A) (Rc := nR) (Gc := nG) (As := [.int x3]) (rest := []) (b := ad 99) (C := RX3) ⟨hx, hb, hml, hown, hts⟩ (m_isCrushed_met l D ad I A x3 v6 h6) (g_cwV 1 hts (lw_V q1460 q1462 qs55 q82 q1463) rfl rfl m_isCrushed_ds ⟨Nat.le_trans (Nat.le_of_ble_eq_true rfl) hRf, Nat.le_trans (Nat.le_of_ble_eq_true rfl) hRl⟩) (g_recv hK hW mO rfl) hK hW hcs rfl hl.1 rfl (Nat.le_of_ble_eq_true rfl) dX3_wins_43 ?_
          refine lv_if_ne (tgt := 57) hx hb dX3_wins_46 (by decide) (fun c7 => ?_) (fun c7 => ?_)
          · rw [if_neg c7] at hm4
            refine lv_iconst (v := (-1)) hx hb dX3_wins_57 (by decide) ?_
            obtain rfl := so1 hm4
            exact K4 ls (lv_sub hl [0, 1, 2, 3] rfl)
          · rw [if_pos c7] at hm4
            refine lv_aload_n hx hb dX3_wins_49 rfl (lv_at hl 0 rfl) ?_
            refine lv_iload_n hx hb dX3_wins_50 rfl (lv_at hl 3 rfl) ?_
            obtain ⟨v8, h8, hm4⟩ := ob1_e hm4
            refine g_vR (ov := some (.int v8)) (D := D) (Sc := mS) (adc := ad) (Ic := I) (Ac := A) (Rc := nR) (Gc := nG) (As := [.int x3]) (rest := []) (b := ad 99) (C := RX3) ⟨hx, hb, hml, hown, hts⟩ (m_votesFor_met l D ad I A x3 v8 h8) (g_cwV 1 hts (lw_V q1511 q1513 qs58 q82 q1514) rfl rfl m_votesFor_ds ⟨Nat.le_trans (Nat.le_of_ble_eq_true rfl) hRf, Nat.le_trans (Nat.le_of_ble_eq_true rfl) hRl⟩) (g_recv hK hW mO rfl) hK hW hcs rfl hl.1 rfl (Nat.le_of_ble_eq_true rfl) dX3_wins_51 ?_
            refine lv_goto (tgt := 58) hx hb dX3_wins_54 (by decide) ?_
            obtain rfl := so1 hm4
            exact K4 ls (lv_sub hl [0, 1, 2, 3] rfl)
def m_wins (I : Nat → Int32) (A : Nat → Nat → Int32) : Option (Int32) :=
  ob1 (m_isNone I A ) fun (v1 : Int32) =>
  if v1 = 0 then (ob3 (m_wins_L17 I A NF (-1000000) (-1) 0) fun (v3 : Int32) (v4 : Int32) (v5 : Int32) =>
    some v3) else (some (-1000002))
set_option maxRecDepth 100000 in
set_option maxHeartbeats 4000000 in
theorem m_wins_met (l : Launch) (D : dd_) (ad : Nat → Nat) (I : Nat → Int32) (A : Nat → Nat → Int32) (r : Int32) (hf : m_wins I A  = some r) : Met l yX3_wins (ws_ yX3_wins cX3_wins 5 (some .int)) ({ frames := 5, cells := 0, slots := 0, locals := 108 }) (PcW D mS ad I A nR nG [.ref (ad 99)]) (QcR (some (.int r))) 0 0 (fun _ => False) := by
  refine Met.ofW (cc := cX3_wins) (maxL := 5) (ret := (some .int)) (by decide) rfl ?_
  intro p e s m args below meth c s₁ B hml hv
  obtain ⟨rfl, hK, hW⟩ := hv
  have hx := B.exec
  have hb := B.bytes
  have hr := B.returns
  have hts := atoms_spec (ws := (ws_ yX3_wins cX3_wins 5 (some .int))) B.pre
  have hts : ∀ w ∈ lw_all, w.before _ s = true := fun w h => hts w (List.mem_cons_of_mem _ h)
  have hown : s.vm.findClass RX3 = some m.cls := findClass_of_methodNamed B.named
  have hlocks := B.notSynchronized
  have hRf : 5 ≤ (headSpec (ws_ yX3_wins cX3_wins 5 (some .int)) ({ frames := 5, cells := 0, slots := 0, locals := 108 })).room.frames := Nat.le_refl _
  have hRl : 108 ≤ (headSpec (ws_ yX3_wins cX3_wins 5 (some .int)) ({ frames := 5, cells := 0, slots := 0, locals := 108 })).room.locals := Nat.le_refl _
  have hcs : 0 ≤ (headSpec (ws_ yX3_wins cX3_wins 5 (some .int)) ({ frames := 5, cells := 0, slots := 0, locals := 108 })).room.cells ∧ 0 ≤ (headSpec (ws_ yX3_wins cX3_wins 5 (some .int)) ({ frames := 5, cells := 0, slots := 0, locals := 108 })).room.slots := ⟨Nat.zero_le _, Nat.zero_le _⟩
  have hl := lv_entry ([.ref (ad 99)]) (n := 5) (Nat.le_of_ble_eq_true rfl)
  rw [lg_entry_eq]
  generalize (lg_sl ([.ref (ad 99)]) ++ List.replicate (5 - (lg_sl ([.ref (ad 99)])).length) Slot.unset).toArray = ls at hl ⊢
  have hl : lv_has ls 5 [(0, .ref (ad 99))] := hl
  have hf : (ob1 (m_isNone I A ) fun (v1 : Int32) =>
    if v1 = 0 then (ob3 (m_wins_L17 I A NF (-1000000) (-1) 0) fun (v3 : Int32) (v4 : Int32) (v5 : Int32) =>
      some v3) else (some (-1000002))) = some r := hf
  refine lv_aload_n hx hb dX3_wins_0 rfl (lv_at hl 0 rfl) ?_
  obtain ⟨v1, h1, hf⟩ := ob1_e hf
  refine g_vR (ov := some (.int v1)) (D := D) (Sc := mS) (adc := ad) (Ic := I) (Ac := A) (Rc := nR) (Gc := nG) (As := []) (rest := []) (b := ad 99) (C := RX3) ⟨hx, hb, hml, hown, hts⟩ (m_isNone_met l D ad I A  v1 h1) (g_cwV 0 hts (lw_V q1446 q1448 qs53 q82 q1449) rfl rfl m_isNone_ds ⟨Nat.le_trans (Nat.le_of_ble_eq_true rfl) hRf, Nat.le_trans (Nat.le_of_ble_eq_true rfl) hRl⟩) (g_recv hK hW mO rfl) hK hW hcs rfl hl.1 rfl (Nat.le_of_ble_eq_true rfl) dX3_wins_1 ?_
  refine lv_if_eq (tgt := 10) hx hb dX3_wins_4 (by decide) (fun c2 => ?_) (fun c2 => ?_)
  · rw [if_pos c2] at hf
    refine lv_ldc (v := (-1000000)) hx hb hown (hts _ q1492) dX3_wins_10 ?_
    refine lv_istore_n (lv' := [(1, .int (-1000000)), (0, .ref (ad 99))]) hx hb dX3_wins_12 rfl hl (by decide) rfl (fun ls hl => ?_)
    refine lv_iconst (v := (-1)) hx hb dX3_wins_13 (by decide) ?_
    refine lv_istore_n (lv' := [(2, .int (-1)), (1, .int (-1000000)), (0, .ref (ad 99))]) hx hb dX3_wins_14 rfl hl (by decide) rfl (fun ls hl => ?_)
    refine lv_iconst (v := 0) hx hb dX3_wins_15 (by decide) ?_
    refine lv_istore_n (lv' := [(3, .int 0), (2, .int (-1)), (1, .int (-1000000)), (0, .ref (ad 99))]) hx hb dX3_wins_16 rfl hl (by decide) rfl (fun ls hl => ?_)
    obtain ⟨v3, v4, v5, hq5, hf⟩ := ob3_e hf
    refine m_wins_L17_w hx hb hml hown hts hK hRf hRl hcs I A hW v3 v4 v5 (fun ls hl => ?_) NF (-1000000) (-1) 0 ls hq5 (lv_sub hl [3, 2, 1, 0] rfl)
    refine lv_iload_n hx hb dX3_wins_91 rfl (lv_at hl 0 rfl) ?_
    obtain rfl := so1 hf
    exact W.iret hx hb hr (fun t ht _ => ⟨rfl, ht⟩) (fun q hq => by cases hq) dX3_wins_92
  · rw [if_neg c2] at hf
    refine lv_ldc (v := (-1000002)) hx hb hown (hts _ q1391) dX3_wins_7 ?_
    obtain rfl := so1 hf
    exact W.iret hx hb hr (fun t ht _ => ⟨rfl, ht⟩) (fun q hq => by cases hq) dX3_wins_9
theorem m_wins_ds : yX3_wins.cls = RX3 ∧ yX3_wins.cls ≠ "java/lang/invoke/MethodHandle" ∧ yX3_wins.cls ≠ "java/lang/invoke/VarHandle" ∧ (parseMethodDescriptor yX3_wins.desc).map (fun d => d.parameters.length) = some 0 := by decide +kernel
/-! isBorne -/
def m_isBorne_L21 (I : Nat → Int32) (A : Nat → Nat → Int32) (u1 : Int32) (u2 : Int32) (u3 : Int32) : Nat → Int32 → Int32 → Option (Int32 × Int32)
  | 0, _, _ => none
  | n + 1, x4, x5 =>
    ob1 (ldO (A 0) 2044 7) fun (v1 : Int32) =>
    if v1 ≤ x5 then (some (x4, x5)) else (ob1 (ldO (A 0) 2044 (25 + x5)) fun (v3 : Int32) =>
      ob1 (if v3 = u3 then (ob1 (m_poundsOf I A x5) fun (v6 : Int32) =>
          ob1 (divO (v6 * u1) 10) fun (v7 : Int32) =>
          (some v7 : Option (Int32))) else ((some 0 : Option (Int32)))) fun (v4 : Int32) =>
      m_isBorne_L21 I A u1 u2 u3 n (x4 + v4) (x5 + 1))
set_option maxRecDepth 100000 in
set_option maxHeartbeats 4000000 in
theorem m_isBorne_L21_w {p : Program} {l : Launch} {e : Env} {R0 : Room} {s : State} {m : MethodId} {args : Array Value} {below : List Frame} {meth : Method} {c : Code} {cells slots : Nat} {Q : State → Prop} {D : dd_} {ad : Nat → Nat} (hx : p.tables.exec = Jvm.exec) (hb : c.code = cX3_isBorne) (hml : c.maxLocals = 6) (hown : s.vm.findClass RX3 = some m.cls) (hts : ∀ w ∈ lw_all, w.before args s = true) (hK : Kx D s) (hRf : 3 ≤ R0.frames) (hRl : 59 ≤ R0.locals) (hcs : cells ≤ R0.cells ∧ slots ≤ R0.slots) {H : Heap} {locs : List Loc} (I : Nat → Int32) (A : Nat → Nat → Int32) (u1 : Int32) (u2 : Int32) (u3 : Int32) (hW : WH D mS ad I A nR nG H) (y4 : Int32) (y5 : Int32) (KX : ∀ (ls : Array Slot), lv_has ls 6 [(0, .ref (ad 99)), (1, .int u1), (2, .int u2), (3, .int u3), (4, .int y4)] → W p l e R0 s m args below meth c H locs cells slots Q (F0 m 73 ls [])) : ∀ (n : Nat) (x4 : Int32) (x5 : Int32) (ls : Array Slot), m_isBorne_L21 I A u1 u2 u3 n x4 x5 = some (y4, y5) → lv_has ls 6 [(0, .ref (ad 99)), (1, .int u1), (2, .int u2), (3, .int u3), (4, .int x4), (5, .int x5)] → W p l e R0 s m args below meth c H locs cells slots Q (F0 m 21 ls []) := by
  intro n
  induction n with
  | zero =>
    intro x4 x5 ls hf
    exact nomatch (show (none : Option (Int32 × Int32)) = some (y4, y5) from hf)
  | succ n ih =>
    intro x4 x5 ls hf hl
    have hf : (ob1 (ldO (A 0) 2044 7) fun (v1 : Int32) =>
        if v1 ≤ x5 then (some (x4, x5)) else (ob1 (ldO (A 0) 2044 (25 + x5)) fun (v3 : Int32) =>
          ob1 (if v3 = u3 then (ob1 (m_poundsOf I A x5) fun (v6 : Int32) =>
              ob1 (divO (v6 * u1) 10) fun (v7 : Int32) =>
              (some v7 : Option (Int32))) else ((some 0 : Option (Int32)))) fun (v4 : Int32) =>
          m_isBorne_L21 I A u1 u2 u3 n (x4 + v4) (x5 + 1))) = some (y4, y5) := hf
    refine lv_iload hx hb dX3_isBorne_21 (lv_at hl 5 rfl) ?_
    refine lv_aload_n hx hb dX3_isBorne_23 rfl (lv_at hl 0 rfl) ?_
    refine g_get (v := .ref (ad 0)) hx hb hts hown hK hW mO in_X3 rfl 0 (by decide) q1212 rfl rfl dX3_isBorne_24 ?_
    refine lv_bipush (v := 7) hx hb dX3_isBorne_27 (by decide) ?_
    obtain ⟨v1, hv1, hf⟩ := ob1_e hf
    refine g_iald hx hb hK hW mA0 hv1 dX3_isBorne_29 ?_
    refine lv_icmp_ge (tgt := 73) hx hb dX3_isBorne_30 (by decide) (fun c2 => ?_) (fun c2 => ?_)
    · rw [if_pos c2] at hf
      obtain ⟨rfl, rfl⟩ := so2 hf
      exact KX ls (lv_sub hl [0, 1, 2, 3, 4] rfl)
    · rw [if_neg c2] at hf
      refine lv_iload hx hb dX3_isBorne_33 (lv_at hl 4 rfl) ?_
      refine lv_aload_n hx hb dX3_isBorne_35 rfl (lv_at hl 0 rfl) ?_
      refine g_get (v := .ref (ad 0)) hx hb hts hown hK hW mO in_X3 rfl 0 (by decide) q1212 rfl rfl dX3_isBorne_36 ?_
      refine lv_bipush (v := 25) hx hb dX3_isBorne_39 (by decide) ?_
      refine lv_iload hx hb dX3_isBorne_41 (lv_at hl 5 rfl) ?_
      refine lv_iadd hx hb dX3_isBorne_43 ?_
      obtain ⟨v3, hv3, hf⟩ := ob1_e hf
      refine g_iald hx hb hK hW mA0 hv3 dX3_isBorne_44 ?_
      refine lv_iload_n hx hb dX3_isBorne_45 rfl (lv_at hl 3 rfl) ?_
      obtain ⟨v4, hm4, hf⟩ := ob1_e hf
      refine w_cutL (nL := 6) (L := [(0, .ref (ad 99)), (1, .int u1), (2, .int u2), (3, .int u3), (5, .int x5)]) (pcj := 64) (st := [.int v4, .int x4]) (fun ls hl => ?_) (fun K4 => ?_)
      · refine lv_iadd hx hb dX3_isBorne_64 ?_
        refine lv_istore (lv' := [(4, .int (x4 + v4)), (0, .ref (ad 99)), (1, .int u1), (2, .int u2), (3, .int u3), (5, .int x5)]) hx hb dX3_isBorne_65 hl (by decide) rfl (fun ls hl => ?_)
        refine lv_iinc (v := x5 + 1) (lv' := [(5, .int (x5 + 1)), (4, .int (x4 + v4)), (0, .ref (ad 99)), (1, .int u1), (2, .int u2), (3, .int u3)]) hx hb dX3_isBorne_67 hl (k := 5) rfl (by rfl) (by decide) rfl (fun ls hl => ?_)
        refine lv_goto (tgt := 21) hx hb dX3_isBorne_70 (by decide) ?_
        exact ih (x4 + v4) (x5 + 1) ls hf (lv_sub hl [2, 3, 4, 5, 1, 0] rfl)
      · refine lv_icmp_ne (tgt := 63) hx hb dX3_isBorne_46 (by decide) (fun c5 => ?_) (fun c5 => ?_)
        · rw [if_neg c5] at hm4
          refine lv_iconst (v := 0) hx hb dX3_isBorne_63 (by decide) ?_
          obtain rfl := so1 hm4
          exact K4 ls (lv_sub hl [0, 1, 2, 3, 5] rfl)
        · rw [if_pos c5] at hm4
          refine lv_aload_n hx hb dX3_isBorne_49 rfl (lv_at hl 0 rfl) ?_
          refine lv_iload hx hb dX3_isBorne_50 (lv_at hl 5 rfl) ?_
          obtain ⟨v6, h6, hm4⟩ := ob1_e hm4
          refine g_vR (ov := some (.int v6)) (D := D) (Sc := mS) (adc := ad) (Ic := I) (Ac := A) (Rc := nR) (Gc := nG) (As := [.int x5]) (rest := [.int x4]) (b := ad 99) (C := RX3) ⟨hx, hb, hml, hown, hts⟩ (m_poundsOf_met l D ad I A x5 v6 h6) (g_cwV 1 hts (lw_V q1413 q1415 qs50 q82 q1416) rfl rfl m_poundsOf_ds ⟨Nat.le_trans (Nat.le_of_ble_eq_true rfl) hRf, Nat.le_trans (Nat.le_of_ble_eq_true rfl) hRl⟩) (g_recv hK hW mO rfl) hK hW hcs rfl hl.1 rfl (Nat.le_of_ble_eq_true rfl) dX3_isBorne_52 ?_
          refine lv_iload_n hx hb dX3_isBorne_55 rfl (lv_at hl 1 rfl) ?_
          refine lv_imul hx hb dX3_isBorne_56 ?_
          refine lv_bipush (v := 10) hx hb dX3_isBorne_57 (by decide) ?_
          obtain ⟨v7, hv7, hm4⟩ := ob1_e hm4
          refine g_idiv hx hb hv7 dX3_isBorne_59 ?_
          refine lv_goto (tgt := 64) hx hb dX3_isBorne_60 (by decide) ?_
          obtain rfl := so1 hm4
          exact K4 ls (lv_sub hl [0, 1, 2, 3, 5] rfl)
def m_isBorne_L4 (I : Nat → Int32) (A : Nat → Nat → Int32) (u1 : Int32) : Nat → Int32 → Int32 → Option (Int32 × Int32)
  | 0, _, _ => none
  | n + 1, x2, x3 =>
    ob1 (ldO (A 0) 2044 6) fun (v1 : Int32) =>
    if v1 ≤ x3 then (some (x2, x3)) else (ob2 (m_isBorne_L21 I A u1 x2 x3 NF 0 0) fun (v3 : Int32) (v4 : Int32) =>
      ob1 (if x2 = 0 then ((some 0 : Option (Int32))) else (ob1 (ldO (A 0) 2044 (15 + x3)) fun (v7 : Int32) =>
          if v7 < v3 then ((some 0 : Option (Int32))) else ((some 1 : Option (Int32))))) fun (v5 : Int32) =>
      m_isBorne_L4 I A u1 n v5 (x3 + 1))
set_option maxRecDepth 100000 in
set_option maxHeartbeats 4000000 in
theorem m_isBorne_L4_w {p : Program} {l : Launch} {e : Env} {R0 : Room} {s : State} {m : MethodId} {args : Array Value} {below : List Frame} {meth : Method} {c : Code} {cells slots : Nat} {Q : State → Prop} {D : dd_} {ad : Nat → Nat} (hx : p.tables.exec = Jvm.exec) (hb : c.code = cX3_isBorne) (hml : c.maxLocals = 6) (hown : s.vm.findClass RX3 = some m.cls) (hts : ∀ w ∈ lw_all, w.before args s = true) (hK : Kx D s) (hRf : 3 ≤ R0.frames) (hRl : 59 ≤ R0.locals) (hcs : cells ≤ R0.cells ∧ slots ≤ R0.slots) {H : Heap} {locs : List Loc} (I : Nat → Int32) (A : Nat → Nat → Int32) (u1 : Int32) (hW : WH D mS ad I A nR nG H) (y2 : Int32) (y3 : Int32) (KX : ∀ (ls : Array Slot), lv_has ls 6 [(2, .int y2)] → W p l e R0 s m args below meth c H locs cells slots Q (F0 m 103 ls [])) : ∀ (n : Nat) (x2 : Int32) (x3 : Int32) (ls : Array Slot), m_isBorne_L4 I A u1 n x2 x3 = some (y2, y3) → lv_has ls 6 [(0, .ref (ad 99)), (1, .int u1), (2, .int x2), (3, .int x3)] → W p l e R0 s m args below meth c H locs cells slots Q (F0 m 4 ls []) := by
  intro n
  induction n with
  | zero =>
    intro x2 x3 ls hf
    exact nomatch (show (none : Option (Int32 × Int32)) = some (y2, y3) from hf)
  | succ n ih =>
    intro x2 x3 ls hf hl
    have hf : (ob1 (ldO (A 0) 2044 6) fun (v1 : Int32) =>
        if v1 ≤ x3 then (some (x2, x3)) else (ob2 (m_isBorne_L21 I A u1 x2 x3 NF 0 0) fun (v3 : Int32) (v4 : Int32) =>
          ob1 (if x2 = 0 then ((some 0 : Option (Int32))) else (ob1 (ldO (A 0) 2044 (15 + x3)) fun (v7 : Int32) =>
              if v7 < v3 then ((some 0 : Option (Int32))) else ((some 1 : Option (Int32))))) fun (v5 : Int32) =>
          m_isBorne_L4 I A u1 n v5 (x3 + 1))) = some (y2, y3) := hf
    refine lv_iload_n hx hb dX3_isBorne_4 rfl (lv_at hl 3 rfl) ?_
    refine lv_aload_n hx hb dX3_isBorne_5 rfl (lv_at hl 0 rfl) ?_
    refine g_get (v := .ref (ad 0)) hx hb hts hown hK hW mO in_X3 rfl 0 (by decide) q1212 rfl rfl dX3_isBorne_6 ?_
    refine lv_bipush (v := 6) hx hb dX3_isBorne_9 (by decide) ?_
    obtain ⟨v1, hv1, hf⟩ := ob1_e hf
    refine g_iald hx hb hK hW mA0 hv1 dX3_isBorne_11 ?_
    refine lv_icmp_ge (tgt := 103) hx hb dX3_isBorne_12 (by decide) (fun c2 => ?_) (fun c2 => ?_)
    · rw [if_pos c2] at hf
      obtain ⟨rfl, rfl⟩ := so2 hf
      exact KX ls (lv_sub hl [2] rfl)
    · rw [if_neg c2] at hf
      refine lv_iconst (v := 0) hx hb dX3_isBorne_15 (by decide) ?_
      refine lv_istore (lv' := [(4, .int 0), (0, .ref (ad 99)), (1, .int u1), (2, .int x2), (3, .int x3)]) hx hb dX3_isBorne_16 hl (by decide) rfl (fun ls hl => ?_)
      refine lv_iconst (v := 0) hx hb dX3_isBorne_18 (by decide) ?_
      refine lv_istore (lv' := [(5, .int 0), (4, .int 0), (0, .ref (ad 99)), (1, .int u1), (2, .int x2), (3, .int x3)]) hx hb dX3_isBorne_19 hl (by decide) rfl (fun ls hl => ?_)
      obtain ⟨v3, v4, hq4, hf⟩ := ob2_e hf
      refine m_isBorne_L21_w hx hb hml hown hts hK hRf hRl hcs I A u1 x2 x3 hW v3 v4 (fun ls hl => ?_) NF 0 0 ls hq4 (lv_sub hl [2, 3, 4, 5, 1, 0] rfl)
      refine lv_iload_n hx hb dX3_isBorne_73 rfl (lv_at hl 2 rfl) ?_
      obtain ⟨v5, hm5, hf⟩ := ob1_e hf
      refine w_cutL (nL := 6) (L := [(0, .ref (ad 99)), (1, .int u1), (3, .int x3)]) (pcj := 96) (st := [.int v5]) (fun ls hl => ?_) (fun K5 => ?_)
      · refine lv_istore_n (lv' := [(2, .int v5), (0, .ref (ad 99)), (1, .int u1), (3, .int x3)]) hx hb dX3_isBorne_96 rfl hl (by decide) rfl (fun ls hl => ?_)
        refine lv_iinc (v := x3 + 1) (lv' := [(3, .int (x3 + 1)), (2, .int v5), (0, .ref (ad 99)), (1, .int u1)]) hx hb dX3_isBorne_97 hl (k := 3) rfl (by rfl) (by decide) rfl (fun ls hl => ?_)
        refine lv_goto (tgt := 4) hx hb dX3_isBorne_100 (by decide) ?_
        exact ih v5 (x3 + 1) ls hf (lv_sub hl [2, 3, 1, 0] rfl)
      · refine lv_if_eq (tgt := 95) hx hb dX3_isBorne_74 (by decide) (fun c6 => ?_) (fun c6 => ?_)
        · rw [if_pos c6] at hm5
          refine lv_iconst (v := 0) hx hb dX3_isBorne_95 (by decide) ?_
          obtain rfl := so1 hm5
          exact K5 ls (lv_sub hl [0, 1, 3] rfl)
        · rw [if_neg c6] at hm5
          refine lv_iload hx hb dX3_isBorne_77 (lv_at hl 4 rfl) ?_
          refine lv_aload_n hx hb dX3_isBorne_79 rfl (lv_at hl 0 rfl) ?_
          refine g_get (v := .ref (ad 0)) hx hb hts hown hK hW mO in_X3 rfl 0 (by decide) q1212 rfl rfl dX3_isBorne_80 ?_
          refine lv_bipush (v := 15) hx hb dX3_isBorne_83 (by decide) ?_
          refine lv_iload_n hx hb dX3_isBorne_85 rfl (lv_at hl 3 rfl) ?_
          refine lv_iadd hx hb dX3_isBorne_86 ?_
          obtain ⟨v7, hv7, hm5⟩ := ob1_e hm5
          refine g_iald hx hb hK hW mA0 hv7 dX3_isBorne_87 ?_
          refine lv_icmp_gt (tgt := 95) hx hb dX3_isBorne_88 (by decide) (fun c8 => ?_) (fun c8 => ?_)
          · rw [if_pos c8] at hm5
            refine lv_iconst (v := 0) hx hb dX3_isBorne_95 (by decide) ?_
            obtain rfl := so1 hm5
            exact K5 ls (lv_sub hl [0, 1, 3] rfl)
          · rw [if_neg c8] at hm5
            refine lv_iconst (v := 1) hx hb dX3_isBorne_91 (by decide) ?_
            refine lv_goto (tgt := 96) hx hb dX3_isBorne_92 (by decide) ?_
            obtain rfl := so1 hm5
            exact K5 ls (lv_sub hl [0, 1, 3] rfl)
def m_isBorne (I : Nat → Int32) (A : Nat → Nat → Int32) (a0 : Int32) : Option (Int32) :=
  ob2 (m_isBorne_L4 I A a0 NF 1 0) fun (v1 : Int32) (v2 : Int32) =>
  zO v1
set_option maxRecDepth 100000 in
set_option maxHeartbeats 4000000 in
theorem m_isBorne_met (l : Launch) (D : dd_) (ad : Nat → Nat) (I : Nat → Int32) (A : Nat → Nat → Int32) (a0 : Int32) (r : Int32) (hf : m_isBorne I A a0 = some r) : Met l yX3_isBorne (ws_ yX3_isBorne cX3_isBorne 6 (some .boolean)) ({ frames := 3, cells := 0, slots := 0, locals := 59 }) (PcW D mS ad I A nR nG [.ref (ad 99), .int a0]) (QcR (some (.int r))) 0 0 (fun _ => False) := by
  refine Met.ofW (cc := cX3_isBorne) (maxL := 6) (ret := (some .boolean)) (by decide) rfl ?_
  intro p e s m args below meth c s₁ B hml hv
  obtain ⟨rfl, hK, hW⟩ := hv
  have hx := B.exec
  have hb := B.bytes
  have hr := B.returns
  have hts := atoms_spec (ws := (ws_ yX3_isBorne cX3_isBorne 6 (some .boolean))) B.pre
  have hts : ∀ w ∈ lw_all, w.before _ s = true := fun w h => hts w (List.mem_cons_of_mem _ h)
  have hown : s.vm.findClass RX3 = some m.cls := findClass_of_methodNamed B.named
  have hlocks := B.notSynchronized
  have hRf : 3 ≤ (headSpec (ws_ yX3_isBorne cX3_isBorne 6 (some .boolean)) ({ frames := 3, cells := 0, slots := 0, locals := 59 })).room.frames := Nat.le_refl _
  have hRl : 59 ≤ (headSpec (ws_ yX3_isBorne cX3_isBorne 6 (some .boolean)) ({ frames := 3, cells := 0, slots := 0, locals := 59 })).room.locals := Nat.le_refl _
  have hcs : 0 ≤ (headSpec (ws_ yX3_isBorne cX3_isBorne 6 (some .boolean)) ({ frames := 3, cells := 0, slots := 0, locals := 59 })).room.cells ∧ 0 ≤ (headSpec (ws_ yX3_isBorne cX3_isBorne 6 (some .boolean)) ({ frames := 3, cells := 0, slots := 0, locals := 59 })).room.slots := ⟨Nat.zero_le _, Nat.zero_le _⟩
  have hl := lv_entry ([.ref (ad 99), .int a0]) (n := 6) (Nat.le_of_ble_eq_true rfl)
  rw [lg_entry_eq]
  generalize (lg_sl ([.ref (ad 99), .int a0]) ++ List.replicate (6 - (lg_sl ([.ref (ad 99), .int a0])).length) Slot.unset).toArray = ls at hl ⊢
  have hl : lv_has ls 6 [(0, .ref (ad 99)), (1, .int a0)] := hl
  have hf : (ob2 (m_isBorne_L4 I A a0 NF 1 0) fun (v1 : Int32) (v2 : Int32) =>
    zO v1) = some r := hf
  refine lv_iconst (v := 1) hx hb dX3_isBorne_0 (by decide) ?_
  refine lv_istore_n (lv' := [(2, .int 1), (0, .ref (ad 99)), (1, .int a0)]) hx hb dX3_isBorne_1 rfl hl (by decide) rfl (fun ls hl => ?_)
  refine lv_iconst (v := 0) hx hb dX3_isBorne_2 (by decide) ?_
  refine lv_istore_n (lv' := [(3, .int 0), (2, .int 1), (0, .ref (ad 99)), (1, .int a0)]) hx hb dX3_isBorne_3 rfl hl (by decide) rfl (fun ls hl => ?_)
  obtain ⟨v1, v2, hq2, hf⟩ := ob2_e hf
  refine m_isBorne_L4_w hx hb hml hown hts hK hRf hRl hcs I A a0 hW v1 v2 (fun ls hl => ?_) NF 1 0 ls hq2 (lv_sub hl [2, 3, 1, 0] rfl)
  refine lv_iload_n hx hb dX3_isBorne_103 rfl (lv_at hl 0 rfl) ?_
  obtain ⟨hz, rfl⟩ := zO_e hf
  exact W.zret hx hb hr (nar_z hz) (fun t ht _ => ⟨rfl, ht⟩) (fun q hq => by cases hq) dX3_isBorne_104
theorem m_isBorne_ds : yX3_isBorne.cls = RX3 ∧ yX3_isBorne.cls ≠ "java/lang/invoke/MethodHandle" ∧ yX3_isBorne.cls ≠ "java/lang/invoke/VarHandle" ∧ (parseMethodDescriptor yX3_isBorne.desc).map (fun d => d.parameters.length) = some 1 := by decide +kernel
/-! law -/
def m_law_L13 (I : Nat → Int32) (A : Nat → Nat → Int32) : Nat → Int32 → Option (Int32)
  | 0, _ => none
  | n + 1, x1 =>
    ob1 (m_isBorne I A x1) fun (v1 : Int32) =>
    if v1 = 0 then (m_law_L13 I A n (x1 + (-1))) else (some x1)
set_option maxRecDepth 100000 in
set_option maxHeartbeats 4000000 in
theorem m_law_L13_w {p : Program} {l : Launch} {e : Env} {R0 : Room} {s : State} {m : MethodId} {args : Array Value} {below : List Frame} {meth : Method} {c : Code} {cells slots : Nat} {Q : State → Prop} {D : dd_} {ad : Nat → Nat} (hx : p.tables.exec = Jvm.exec) (hb : c.code = cX3_law) (hml : c.maxLocals = 2) (hown : s.vm.findClass RX3 = some m.cls) (hts : ∀ w ∈ lw_all, w.before args s = true) (hK : Kx D s) (hRf : 4 ≤ R0.frames) (hRl : 84 ≤ R0.locals) (hcs : cells ≤ R0.cells ∧ slots ≤ R0.slots) {H : Heap} {locs : List Loc} (I : Nat → Int32) (A : Nat → Nat → Int32) (hW : WH D mS ad I A nR nG H) (y1 : Int32) (KX : ∀ (ls : Array Slot), lv_has ls 2 [(1, .int y1)] → W p l e R0 s m args below meth c H locs cells slots Q (F0 m 27 ls [])) : ∀ (n : Nat) (x1 : Int32) (ls : Array Slot), m_law_L13 I A n x1 = some y1 → lv_has ls 2 [(0, .ref (ad 99)), (1, .int x1)] → W p l e R0 s m args below meth c H locs cells slots Q (F0 m 13 ls []) := by
  intro n
  induction n with
  | zero =>
    intro x1 ls hf
    exact nomatch (show (none : Option (Int32)) = some y1 from hf)
  | succ n ih =>
    intro x1 ls hf hl
    have hf : (ob1 (m_isBorne I A x1) fun (v1 : Int32) =>
        if v1 = 0 then (m_law_L13 I A n (x1 + (-1))) else (some x1)) = some y1 := hf
    refine lv_aload_n hx hb dX3_law_13 rfl (lv_at hl 0 rfl) ?_
    refine lv_iload_n hx hb dX3_law_14 rfl (lv_at hl 1 rfl) ?_
    obtain ⟨v1, h1, hf⟩ := ob1_e hf
    refine g_vR (ov := some (.int v1)) (D := D) (Sc := mS) (adc := ad) (Ic := I) (Ac := A) (Rc := nR) (Gc := nG) (As := [.int x1]) (rest := []) (b := ad 99) (C := RX3) ⟨hx, hb, hml, hown, hts⟩ (m_isBorne_met l D ad I A x1 v1 h1) (g_cwV 1 hts (lw_V q1527 q1529 qs60 q82 q1530) rfl rfl m_isBorne_ds ⟨Nat.le_trans (Nat.le_of_ble_eq_true rfl) hRf, Nat.le_trans (Nat.le_of_ble_eq_true rfl) hRl⟩) (g_recv hK hW mO rfl) hK hW hcs rfl hl.1 rfl (Nat.le_of_ble_eq_true rfl) dX3_law_15 ?_
    refine lv_if_ne (tgt := 27) hx hb dX3_law_18 (by decide) (fun c2 => ?_) (fun c2 => ?_)
    · rw [if_neg c2] at hf
      obtain rfl := so1 hf
      exact KX ls (lv_sub hl [1] rfl)
    · rw [if_pos c2] at hf
      refine lv_iinc (v := x1 + (-1)) (lv' := [(1, .int (x1 + (-1))), (0, .ref (ad 99))]) hx hb dX3_law_21 hl (k := 1) rfl (by rfl) (by decide) rfl (fun ls hl => ?_)
      refine lv_goto (tgt := 13) hx hb dX3_law_24 (by decide) ?_
      exact ih (x1 + (-1)) ls hf (lv_sub hl [1, 0] rfl)
def m_law (I : Nat → Int32) (A : Nat → Nat → Int32) : Option (Int32) :=
  ob1 (m_isNone I A ) fun (v1 : Int32) =>
  if v1 = 0 then (ob1 (m_law_L13 I A NF 40) fun (v3 : Int32) =>
    some v3) else (some (-1000002))
set_option maxRecDepth 100000 in
set_option maxHeartbeats 4000000 in
theorem m_law_met (l : Launch) (D : dd_) (ad : Nat → Nat) (I : Nat → Int32) (A : Nat → Nat → Int32) (r : Int32) (hf : m_law I A  = some r) : Met l yX3_law (ws_ yX3_law cX3_law 2 (some .int)) ({ frames := 4, cells := 0, slots := 0, locals := 84 }) (PcW D mS ad I A nR nG [.ref (ad 99)]) (QcR (some (.int r))) 0 0 (fun _ => False) := by
  refine Met.ofW (cc := cX3_law) (maxL := 2) (ret := (some .int)) (by decide) rfl ?_
  intro p e s m args below meth c s₁ B hml hv
  obtain ⟨rfl, hK, hW⟩ := hv
  have hx := B.exec
  have hb := B.bytes
  have hr := B.returns
  have hts := atoms_spec (ws := (ws_ yX3_law cX3_law 2 (some .int))) B.pre
  have hts : ∀ w ∈ lw_all, w.before _ s = true := fun w h => hts w (List.mem_cons_of_mem _ h)
  have hown : s.vm.findClass RX3 = some m.cls := findClass_of_methodNamed B.named
  have hlocks := B.notSynchronized
  have hRf : 4 ≤ (headSpec (ws_ yX3_law cX3_law 2 (some .int)) ({ frames := 4, cells := 0, slots := 0, locals := 84 })).room.frames := Nat.le_refl _
  have hRl : 84 ≤ (headSpec (ws_ yX3_law cX3_law 2 (some .int)) ({ frames := 4, cells := 0, slots := 0, locals := 84 })).room.locals := Nat.le_refl _
  have hcs : 0 ≤ (headSpec (ws_ yX3_law cX3_law 2 (some .int)) ({ frames := 4, cells := 0, slots := 0, locals := 84 })).room.cells ∧ 0 ≤ (headSpec (ws_ yX3_law cX3_law 2 (some .int)) ({ frames := 4, cells := 0, slots := 0, locals := 84 })).room.slots := ⟨Nat.zero_le _, Nat.zero_le _⟩
  have hl := lv_entry ([.ref (ad 99)]) (n := 2) (Nat.le_of_ble_eq_true rfl)
  rw [lg_entry_eq]
  generalize (lg_sl ([.ref (ad 99)]) ++ List.replicate (2 - (lg_sl ([.ref (ad 99)])).length) Slot.unset).toArray = ls at hl ⊢
  have hl : lv_has ls 2 [(0, .ref (ad 99))] := hl
  have hf : (ob1 (m_isNone I A ) fun (v1 : Int32) =>
    if v1 = 0 then (ob1 (m_law_L13 I A NF 40) fun (v3 : Int32) =>
      some v3) else (some (-1000002))) = some r := hf
  refine lv_aload_n hx hb dX3_law_0 rfl (lv_at hl 0 rfl) ?_
  obtain ⟨v1, h1, hf⟩ := ob1_e hf
  refine g_vR (ov := some (.int v1)) (D := D) (Sc := mS) (adc := ad) (Ic := I) (Ac := A) (Rc := nR) (Gc := nG) (As := []) (rest := []) (b := ad 99) (C := RX3) ⟨hx, hb, hml, hown, hts⟩ (m_isNone_met l D ad I A  v1 h1) (g_cwV 0 hts (lw_V q1446 q1448 qs53 q82 q1449) rfl rfl m_isNone_ds ⟨Nat.le_trans (Nat.le_of_ble_eq_true rfl) hRf, Nat.le_trans (Nat.le_of_ble_eq_true rfl) hRl⟩) (g_recv hK hW mO rfl) hK hW hcs rfl hl.1 rfl (Nat.le_of_ble_eq_true rfl) dX3_law_1 ?_
  refine lv_if_eq (tgt := 10) hx hb dX3_law_4 (by decide) (fun c2 => ?_) (fun c2 => ?_)
  · rw [if_pos c2] at hf
    refine lv_bipush (v := 40) hx hb dX3_law_10 (by decide) ?_
    refine lv_istore_n (lv' := [(1, .int 40), (0, .ref (ad 99))]) hx hb dX3_law_12 rfl hl (by decide) rfl (fun ls hl => ?_)
    obtain ⟨v3, hq3, hf⟩ := ob1_e hf
    refine m_law_L13_w hx hb hml hown hts hK hRf hRl hcs I A hW v3 (fun ls hl => ?_) NF 40 ls hq3 (lv_sub hl [1, 0] rfl)
    refine lv_iload_n hx hb dX3_law_27 rfl (lv_at hl 0 rfl) ?_
    obtain rfl := so1 hf
    exact W.iret hx hb hr (fun t ht _ => ⟨rfl, ht⟩) (fun q hq => by cases hq) dX3_law_28
  · rw [if_neg c2] at hf
    refine lv_ldc (v := (-1000002)) hx hb hown (hts _ q1391) dX3_law_7 ?_
    obtain rfl := so1 hf
    exact W.iret hx hb hr (fun t ht _ => ⟨rfl, ht⟩) (fun q hq => by cases hq) dX3_law_9
theorem m_law_ds : yX3_law.cls = RX3 ∧ yX3_law.cls ≠ "java/lang/invoke/MethodHandle" ∧ yX3_law.cls ≠ "java/lang/invoke/VarHandle" ∧ (parseMethodDescriptor yX3_law.desc).map (fun d => d.parameters.length) = some 0 := by decide +kernel
/-! scale -/
def m_scale_L46 (u1 : Int32) (u2 : Int32) (u3 : Int32) (u4 : Int32) : Nat → (Nat → Int32) → (Nat → Nat → Int32) → Int32 → Option ((Nat → Int32) × (Nat → Nat → Int32) × Int32)
  | 0, _, _, _ => none
  | n + 1, I, A, x5 =>
    if 8 ≤ x5 then (some (I, A, x5)) else (ob1 (stO (A 15) 8 x5 0) fun (f2 : Nat → Int32) =>
      m_scale_L46 u1 u2 u3 u4 n I (va_up A 15 f2) (x5 + 1))
set_option maxRecDepth 100000 in
set_option maxHeartbeats 4000000 in
theorem m_scale_L46_w {p : Program} {l : Launch} {e : Env} {R0 : Room} {s : State} {m : MethodId} {args : Array Value} {below : List Frame} {meth : Method} {c : Code} {cells slots : Nat} {Q : State → Prop} {D : dd_} {ad : Nat → Nat} (hx : p.tables.exec = Jvm.exec) (hb : c.code = cX3_scale) (hml : c.maxLocals = 8) (hown : s.vm.findClass RX3 = some m.cls) (hts : ∀ w ∈ lw_all, w.before args s = true) (hK : Kx D s) (hRf : 2 ≤ R0.frames) (hRl : 41 ≤ R0.locals) (hcs : cells ≤ R0.cells ∧ slots ≤ R0.slots) (hI : Inj mS ad) (u1 : Int32) (u2 : Int32) (u3 : Int32) (u4 : Int32) (I9 : (Nat → Int32)) (A9 : (Nat → Nat → Int32)) (y5 : Int32) (KX : ∀ (H : Heap) (locs : List Loc) (ls : Array Slot), WH D mS ad I9 A9 nR nG H → va_S (frS mS ad) s.heap H locs → lv_has ls 8 [(0, .ref (ad 99)), (1, .int u1), (2, .int u2), (3, .int u3), (4, .int u4)] → W p l e R0 s m args below meth c H locs cells slots Q (F0 m 67 ls [])) : ∀ (n : Nat) (I : (Nat → Int32)) (A : (Nat → Nat → Int32)) (x5 : Int32) (H : Heap) (locs : List Loc) (ls : Array Slot), m_scale_L46 u1 u2 u3 u4 n I A x5 = some (I9, A9, y5) → WH D mS ad I A nR nG H → va_S (frS mS ad) s.heap H locs → lv_has ls 8 [(0, .ref (ad 99)), (1, .int u1), (2, .int u2), (3, .int u3), (4, .int u4), (5, .int x5)] → W p l e R0 s m args below meth c H locs cells slots Q (F0 m 46 ls []) := by
  intro n
  have hA : ∀ i ∈ idxS mS, frS mS ad (ad i) := fun i hi => ⟨i, hi, rfl⟩
  induction n with
  | zero =>
    intro I A x5 H locs ls hf
    exact nomatch (show (none : Option ((Nat → Int32) × (Nat → Nat → Int32) × Int32)) = some (I9, A9, y5) from hf)
  | succ n ih =>
    intro I A x5 H locs ls hf hW hS hl
    have hf : (if 8 ≤ x5 then (some (I, A, x5)) else (ob1 (stO (A 15) 8 x5 0) fun (f2 : Nat → Int32) =>
          m_scale_L46 u1 u2 u3 u4 n I (va_up A 15 f2) (x5 + 1))) = some (I9, A9, y5) := hf
    refine lv_iload hx hb dX3_scale_46 (lv_at hl 5 rfl) ?_
    refine lv_bipush (v := 8) hx hb dX3_scale_48 (by decide) ?_
    refine lv_icmp_ge (tgt := 67) hx hb dX3_scale_50 (by decide) (fun c1 => ?_) (fun c1 => ?_)
    · rw [if_pos c1] at hf
      obtain ⟨rfl, rfl, rfl⟩ := so3 hf
      exact KX _ _ ls hW hS (lv_sub hl [0, 1, 2, 3, 4] rfl)
    · rw [if_neg c1] at hf
      refine lv_aload_n hx hb dX3_scale_53 rfl (lv_at hl 0 rfl) ?_
      refine g_get (v := .ref (ad 15)) hx hb hts hown hK hW mO in_X3 rfl 15 (by decide) q1227 rfl rfl dX3_scale_54 ?_
      refine lv_iload hx hb dX3_scale_57 (lv_at hl 5 rfl) ?_
      refine lv_iconst (v := 0) hx hb dX3_scale_59 (by decide) ?_
      obtain ⟨f2, hf2, hf⟩ := ob1_e hf
      refine g_iast hx hb hK mwf hI hA hW hS mA15 hf2 dX3_scale_60 (fun H locs hW hS => ?_)
      refine lv_iinc (v := x5 + 1) (lv' := [(5, .int (x5 + 1)), (0, .ref (ad 99)), (1, .int u1), (2, .int u2), (3, .int u3), (4, .int u4)]) hx hb dX3_scale_61 hl (k := 5) rfl (by rfl) (by decide) rfl (fun ls hl => ?_)
      refine lv_goto (tgt := 46) hx hb dX3_scale_64 (by decide) ?_
      exact ih I (va_up A 15 f2) (x5 + 1) _ _ ls hf hW hS (lv_sub hl [1, 2, 3, 4, 5, 0] rfl)
def m_scale_L90 (I : Nat → Int32) (A : Nat → Nat → Int32) (u1 : Int32) (u2 : Int32) (u3 : Int32) (u4 : Int32) (u5 : Int32) : Nat → Int32 → Int32 → Option (Int32 × Int32)
  | 0, _, _ => none
  | n + 1, x6, x7 =>
    ob1 (ldO (A 0) 2044 7) fun (v1 : Int32) =>
    if v1 ≤ x7 then (some (x6, x7)) else (ob1 (m_has u5 x7) fun (v3 : Int32) =>
      ob1 (if v3 = 0 then ((some 0 : Option (Int32))) else (ob1 (ldO (A 0) 2044 (41 + x7)) fun (v6 : Int32) =>
          (some v6 : Option (Int32)))) fun (v4 : Int32) =>
      m_scale_L90 I A u1 u2 u3 u4 u5 n (x6 + v4) (x7 + 1))
set_option maxRecDepth 100000 in
set_option maxHeartbeats 4000000 in
theorem m_scale_L90_w {p : Program} {l : Launch} {e : Env} {R0 : Room} {s : State} {m : MethodId} {args : Array Value} {below : List Frame} {meth : Method} {c : Code} {cells slots : Nat} {Q : State → Prop} {D : dd_} {ad : Nat → Nat} (hx : p.tables.exec = Jvm.exec) (hb : c.code = cX3_scale) (hml : c.maxLocals = 8) (hown : s.vm.findClass RX3 = some m.cls) (hts : ∀ w ∈ lw_all, w.before args s = true) (hK : Kx D s) (hRf : 2 ≤ R0.frames) (hRl : 41 ≤ R0.locals) (hcs : cells ≤ R0.cells ∧ slots ≤ R0.slots) {H : Heap} {locs : List Loc} (I : Nat → Int32) (A : Nat → Nat → Int32) (u1 : Int32) (u2 : Int32) (u3 : Int32) (u4 : Int32) (u5 : Int32) (hW : WH D mS ad I A nR nG H) (y6 : Int32) (y7 : Int32) (KX : ∀ (ls : Array Slot), lv_has ls 8 [(0, .ref (ad 99)), (1, .int u1), (2, .int u2), (3, .int u3), (4, .int u4), (5, .int u5), (6, .int y6)] → W p l e R0 s m args below meth c H locs cells slots Q (F0 m 137 ls [])) : ∀ (n : Nat) (x6 : Int32) (x7 : Int32) (ls : Array Slot), m_scale_L90 I A u1 u2 u3 u4 u5 n x6 x7 = some (y6, y7) → lv_has ls 8 [(0, .ref (ad 99)), (1, .int u1), (2, .int u2), (3, .int u3), (4, .int u4), (5, .int u5), (6, .int x6), (7, .int x7)] → W p l e R0 s m args below meth c H locs cells slots Q (F0 m 90 ls []) := by
  intro n
  induction n with
  | zero =>
    intro x6 x7 ls hf
    exact nomatch (show (none : Option (Int32 × Int32)) = some (y6, y7) from hf)
  | succ n ih =>
    intro x6 x7 ls hf hl
    have hf : (ob1 (ldO (A 0) 2044 7) fun (v1 : Int32) =>
        if v1 ≤ x7 then (some (x6, x7)) else (ob1 (m_has u5 x7) fun (v3 : Int32) =>
          ob1 (if v3 = 0 then ((some 0 : Option (Int32))) else (ob1 (ldO (A 0) 2044 (41 + x7)) fun (v6 : Int32) =>
              (some v6 : Option (Int32)))) fun (v4 : Int32) =>
          m_scale_L90 I A u1 u2 u3 u4 u5 n (x6 + v4) (x7 + 1))) = some (y6, y7) := hf
    refine lv_iload hx hb dX3_scale_90 (lv_at hl 7 rfl) ?_
    refine lv_aload_n hx hb dX3_scale_92 rfl (lv_at hl 0 rfl) ?_
    refine g_get (v := .ref (ad 0)) hx hb hts hown hK hW mO in_X3 rfl 0 (by decide) q1212 rfl rfl dX3_scale_93 ?_
    refine lv_bipush (v := 7) hx hb dX3_scale_96 (by decide) ?_
    obtain ⟨v1, hv1, hf⟩ := ob1_e hf
    refine g_iald hx hb hK hW mA0 hv1 dX3_scale_98 ?_
    refine lv_icmp_ge (tgt := 137) hx hb dX3_scale_99 (by decide) (fun c2 => ?_) (fun c2 => ?_)
    · rw [if_pos c2] at hf
      obtain ⟨rfl, rfl⟩ := so2 hf
      exact KX ls (lv_sub hl [0, 1, 2, 3, 4, 5, 6] rfl)
    · rw [if_neg c2] at hf
      refine lv_iload hx hb dX3_scale_102 (lv_at hl 6 rfl) ?_
      refine lv_iload hx hb dX3_scale_104 (lv_at hl 5 rfl) ?_
      refine lv_iload hx hb dX3_scale_106 (lv_at hl 7 rfl) ?_
      obtain ⟨v3, h3, hf⟩ := ob1_e hf
      refine g_sR (ov := some (.int v3)) (D := D) (Sc := nS) (adc := ad) (Ic := (fun _ => 0)) (Ac := (fun _ _ => 0)) (Rc := nR) (Gc := nG) (As := [.int u5, .int x7]) (rest := [.int x6]) ⟨hx, hb, hml, hown, hts⟩ (m_has_met l D ad u5 x7 v3 h3) (va_cwS 2 hts (lw_S q1486 q1487 q82 q1488) rfl rfl rfl m_has_ds.2 ⟨Nat.le_trans (Nat.le_of_ble_eq_true rfl) hRf, Nat.le_trans (Nat.le_of_ble_eq_true rfl) hRl⟩) hK WH_nil hcs rfl hl.1 rfl (Nat.le_of_ble_eq_true rfl) dX3_scale_108 ?_
      obtain ⟨v4, hm4, hf⟩ := ob1_e hf
      refine w_cutL (nL := 8) (L := [(0, .ref (ad 99)), (1, .int u1), (2, .int u2), (3, .int u3), (4, .int u4), (5, .int u5), (7, .int x7)]) (pcj := 128) (st := [.int v4, .int x6]) (fun ls hl => ?_) (fun K4 => ?_)
      · refine lv_iadd hx hb dX3_scale_128 ?_
        refine lv_istore (lv' := [(6, .int (x6 + v4)), (0, .ref (ad 99)), (1, .int u1), (2, .int u2), (3, .int u3), (4, .int u4), (5, .int u5), (7, .int x7)]) hx hb dX3_scale_129 hl (by decide) rfl (fun ls hl => ?_)
        refine lv_iinc (v := x7 + 1) (lv' := [(7, .int (x7 + 1)), (6, .int (x6 + v4)), (0, .ref (ad 99)), (1, .int u1), (2, .int u2), (3, .int u3), (4, .int u4), (5, .int u5)]) hx hb dX3_scale_131 hl (k := 7) rfl (by rfl) (by decide) rfl (fun ls hl => ?_)
        refine lv_goto (tgt := 90) hx hb dX3_scale_134 (by decide) ?_
        exact ih (x6 + v4) (x7 + 1) ls hf (lv_sub hl [2, 3, 4, 5, 6, 7, 1, 0] rfl)
      · refine lv_if_eq (tgt := 127) hx hb dX3_scale_111 (by decide) (fun c5 => ?_) (fun c5 => ?_)
        · rw [if_pos c5] at hm4
          refine lv_iconst (v := 0) hx hb dX3_scale_127 (by decide) ?_
          obtain rfl := so1 hm4
          exact K4 ls (lv_sub hl [0, 1, 2, 3, 4, 5, 7] rfl)
        · rw [if_neg c5] at hm4
          refine lv_aload_n hx hb dX3_scale_114 rfl (lv_at hl 0 rfl) ?_
          refine g_get (v := .ref (ad 0)) hx hb hts hown hK hW mO in_X3 rfl 0 (by decide) q1212 rfl rfl dX3_scale_115 ?_
          refine lv_bipush (v := 41) hx hb dX3_scale_118 (by decide) ?_
          refine lv_iload hx hb dX3_scale_120 (lv_at hl 7 rfl) ?_
          refine lv_iadd hx hb dX3_scale_122 ?_
          obtain ⟨v6, hv6, hm4⟩ := ob1_e hm4
          refine g_iald hx hb hK hW mA0 hv6 dX3_scale_123 ?_
          refine lv_goto (tgt := 128) hx hb dX3_scale_124 (by decide) ?_
          obtain rfl := so1 hm4
          exact K4 ls (lv_sub hl [0, 1, 2, 3, 4, 5, 7] rfl)
def m_scale_L162 (u1 : Int32) (u2 : Int32) (u3 : Int32) (u4 : Int32) (u5 : Int32) : Nat → (Nat → Int32) → (Nat → Nat → Int32) → Int32 → Option ((Nat → Int32) × (Nat → Nat → Int32) × Int32)
  | 0, _, _, _ => none
  | n + 1, I, A, x7 =>
    ob1 (ldO (A 0) 2044 7) fun (v1 : Int32) =>
    if v1 ≤ x7 then (some (I, A, x7)) else (ob1 (ldO (A 15) 8 x7) fun (v3 : Int32) =>
      ob1 (m_has u5 x7) fun (v4 : Int32) =>
      ob1 (if v4 = 0 then ((some 0 : Option (Int32))) else ((some 1 : Option (Int32)))) fun (v5 : Int32) =>
      ob1 (stO (A 15) 8 x7 (v3 + v5)) fun (f7 : Nat → Int32) =>
      m_scale_L162 u1 u2 u3 u4 u5 n I (va_up A 15 f7) (x7 + 1))
set_option maxRecDepth 100000 in
set_option maxHeartbeats 4000000 in
theorem m_scale_L162_w {p : Program} {l : Launch} {e : Env} {R0 : Room} {s : State} {m : MethodId} {args : Array Value} {below : List Frame} {meth : Method} {c : Code} {cells slots : Nat} {Q : State → Prop} {D : dd_} {ad : Nat → Nat} (hx : p.tables.exec = Jvm.exec) (hb : c.code = cX3_scale) (hml : c.maxLocals = 8) (hown : s.vm.findClass RX3 = some m.cls) (hts : ∀ w ∈ lw_all, w.before args s = true) (hK : Kx D s) (hRf : 2 ≤ R0.frames) (hRl : 41 ≤ R0.locals) (hcs : cells ≤ R0.cells ∧ slots ≤ R0.slots) (hI : Inj mS ad) (u1 : Int32) (u2 : Int32) (u3 : Int32) (u4 : Int32) (u5 : Int32) (I9 : (Nat → Int32)) (A9 : (Nat → Nat → Int32)) (y7 : Int32) (KX : ∀ (H : Heap) (locs : List Loc) (ls : Array Slot), WH D mS ad I9 A9 nR nG H → va_S (frS mS ad) s.heap H locs → lv_has ls 8 [(0, .ref (ad 99)), (1, .int u1), (2, .int u2), (3, .int u3), (4, .int u4), (5, .int u5)] → W p l e R0 s m args below meth c H locs cells slots Q (F0 m 205 ls [])) : ∀ (n : Nat) (I : (Nat → Int32)) (A : (Nat → Nat → Int32)) (x7 : Int32) (H : Heap) (locs : List Loc) (ls : Array Slot), m_scale_L162 u1 u2 u3 u4 u5 n I A x7 = some (I9, A9, y7) → WH D mS ad I A nR nG H → va_S (frS mS ad) s.heap H locs → lv_has ls 8 [(0, .ref (ad 99)), (1, .int u1), (2, .int u2), (3, .int u3), (4, .int u4), (5, .int u5), (7, .int x7)] → W p l e R0 s m args below meth c H locs cells slots Q (F0 m 162 ls []) := by
  intro n
  have hA : ∀ i ∈ idxS mS, frS mS ad (ad i) := fun i hi => ⟨i, hi, rfl⟩
  induction n with
  | zero =>
    intro I A x7 H locs ls hf
    exact nomatch (show (none : Option ((Nat → Int32) × (Nat → Nat → Int32) × Int32)) = some (I9, A9, y7) from hf)
  | succ n ih =>
    intro I A x7 H locs ls hf hW hS hl
    have hf : (ob1 (ldO (A 0) 2044 7) fun (v1 : Int32) =>
        if v1 ≤ x7 then (some (I, A, x7)) else (ob1 (ldO (A 15) 8 x7) fun (v3 : Int32) =>
          ob1 (m_has u5 x7) fun (v4 : Int32) =>
          ob1 (if v4 = 0 then ((some 0 : Option (Int32))) else ((some 1 : Option (Int32)))) fun (v5 : Int32) =>
          ob1 (stO (A 15) 8 x7 (v3 + v5)) fun (f7 : Nat → Int32) =>
          m_scale_L162 u1 u2 u3 u4 u5 n I (va_up A 15 f7) (x7 + 1))) = some (I9, A9, y7) := hf
    refine lv_iload hx hb dX3_scale_162 (lv_at hl 6 rfl) ?_
    refine lv_aload_n hx hb dX3_scale_164 rfl (lv_at hl 0 rfl) ?_
    refine g_get (v := .ref (ad 0)) hx hb hts hown hK hW mO in_X3 rfl 0 (by decide) q1212 rfl rfl dX3_scale_165 ?_
    refine lv_bipush (v := 7) hx hb dX3_scale_168 (by decide) ?_
    obtain ⟨v1, hv1, hf⟩ := ob1_e hf
    refine g_iald hx hb hK hW mA0 hv1 dX3_scale_170 ?_
    refine lv_icmp_ge (tgt := 205) hx hb dX3_scale_171 (by decide) (fun c2 => ?_) (fun c2 => ?_)
    · rw [if_pos c2] at hf
      obtain ⟨rfl, rfl, rfl⟩ := so3 hf
      exact KX _ _ ls hW hS (lv_sub hl [0, 1, 2, 3, 4, 5] rfl)
    · rw [if_neg c2] at hf
      refine lv_aload_n hx hb dX3_scale_174 rfl (lv_at hl 0 rfl) ?_
      refine g_get (v := .ref (ad 15)) hx hb hts hown hK hW mO in_X3 rfl 15 (by decide) q1227 rfl rfl dX3_scale_175 ?_
      refine lv_iload hx hb dX3_scale_178 (lv_at hl 6 rfl) ?_
      refine lv_dup2_11 hx hb dX3_scale_180 rfl rfl ?_
      obtain ⟨v3, hv3, hf⟩ := ob1_e hf
      refine g_iald hx hb hK hW mA15 hv3 dX3_scale_181 ?_
      refine lv_iload hx hb dX3_scale_182 (lv_at hl 5 rfl) ?_
      refine lv_iload hx hb dX3_scale_184 (lv_at hl 6 rfl) ?_
      obtain ⟨v4, h4, hf⟩ := ob1_e hf
      refine g_sR (ov := some (.int v4)) (D := D) (Sc := nS) (adc := ad) (Ic := (fun _ => 0)) (Ac := (fun _ _ => 0)) (Rc := nR) (Gc := nG) (As := [.int u5, .int x7]) (rest := [.int v3, .int x7, .ref (ad 15)]) ⟨hx, hb, hml, hown, hts⟩ (m_has_met l D ad u5 x7 v4 h4) (va_cwS 2 hts (lw_S q1486 q1487 q82 q1488) rfl rfl rfl m_has_ds.2 ⟨Nat.le_trans (Nat.le_of_ble_eq_true rfl) hRf, Nat.le_trans (Nat.le_of_ble_eq_true rfl) hRl⟩) hK WH_nil hcs rfl hl.1 rfl (Nat.le_of_ble_eq_true rfl) dX3_scale_186 ?_
      obtain ⟨v5, hm5, hf⟩ := ob1_e hf
      refine w_cutL (nL := 8) (L := [(0, .ref (ad 99)), (1, .int u1), (2, .int u2), (3, .int u3), (4, .int u4), (5, .int u5), (7, .int x7)]) (pcj := 197) (st := [.int v5, .int v3, .int x7, .ref (ad 15)]) (fun ls hl => ?_) (fun K5 => ?_)
      · refine lv_iadd hx hb dX3_scale_197 ?_
        obtain ⟨f7, hf7, hf⟩ := ob1_e hf
        refine g_iast hx hb hK mwf hI hA hW hS mA15 hf7 dX3_scale_198 (fun H locs hW hS => ?_)
        refine lv_iinc (v := x7 + 1) (lv' := [(7, .int (x7 + 1)), (0, .ref (ad 99)), (1, .int u1), (2, .int u2), (3, .int u3), (4, .int u4), (5, .int u5)]) hx hb dX3_scale_199 hl (k := 6) rfl (by rfl) (by decide) rfl (fun ls hl => ?_)
        refine lv_goto (tgt := 162) hx hb dX3_scale_202 (by decide) ?_
        exact ih I (va_up A 15 f7) (x7 + 1) _ _ ls hf hW hS (lv_sub hl [1, 2, 3, 4, 5, 6, 0] rfl)
      · refine lv_if_eq (tgt := 196) hx hb dX3_scale_189 (by decide) (fun c6 => ?_) (fun c6 => ?_)
        · rw [if_pos c6] at hm5
          refine lv_iconst (v := 0) hx hb dX3_scale_196 (by decide) ?_
          obtain rfl := so1 hm5
          exact K5 ls (lv_sub hl [0, 1, 2, 3, 4, 5, 6] rfl)
        · rw [if_neg c6] at hm5
          refine lv_iconst (v := 1) hx hb dX3_scale_192 (by decide) ?_
          refine lv_goto (tgt := 197) hx hb dX3_scale_193 (by decide) ?_
          obtain rfl := so1 hm5
          exact K5 ls (lv_sub hl [0, 1, 2, 3, 4, 5, 6] rfl)
def m_scale_L70 (u1 : Int32) (u2 : Int32) : Nat → (Nat → Int32) → (Nat → Nat → Int32) → Int32 → Int32 → Int32 → Option ((Nat → Int32) × (Nat → Nat → Int32) × Int32 × Int32 × Int32)
  | 0, _, _, _, _, _ => none
  | n + 1, I, A, x3, x4, x5 =>
    ob1 (ldO (A 0) 2044 7) fun (v1 : Int32) =>
    if ((1 : Int32) <<< (v1 &&& 31)) ≤ x5 then (some (I, A, x3, x4, x5)) else (ob2 (m_scale_L90 I A u1 u2 x3 x4 x5 NF 0 0) fun (v3 : Int32) (v4 : Int32) =>
      ob4 (if v3 = u1 then (ob1 (if x3 = 0 then ((some x5 : Option (Int32))) else ((some x4 : Option (Int32)))) fun (v10 : Int32) =>
          ob3 (m_scale_L162 u1 u2 (x3 + 1) v10 x5 NF I A 0) fun (I12 : Nat → Int32) (A13 : Nat → Nat → Int32) (v14 : Int32) =>
          (some (x3 + 1, v10, I12, A13) : Option (Int32 × Int32 × (Nat → Int32) × (Nat → Nat → Int32)))) else ((some (x3, x4, I, A) : Option (Int32 × Int32 × (Nat → Int32) × (Nat → Nat → Int32))))) fun (v5 : Int32) (v6 : Int32) (I7 : Nat → Int32) (A8 : Nat → Nat → Int32) =>
      m_scale_L70 u1 u2 n I7 A8 v5 v6 (x5 + 1))
set_option maxRecDepth 100000 in
set_option maxHeartbeats 4000000 in
theorem m_scale_L70_w {p : Program} {l : Launch} {e : Env} {R0 : Room} {s : State} {m : MethodId} {args : Array Value} {below : List Frame} {meth : Method} {c : Code} {cells slots : Nat} {Q : State → Prop} {D : dd_} {ad : Nat → Nat} (hx : p.tables.exec = Jvm.exec) (hb : c.code = cX3_scale) (hml : c.maxLocals = 8) (hown : s.vm.findClass RX3 = some m.cls) (hts : ∀ w ∈ lw_all, w.before args s = true) (hK : Kx D s) (hRf : 2 ≤ R0.frames) (hRl : 41 ≤ R0.locals) (hcs : cells ≤ R0.cells ∧ slots ≤ R0.slots) (hI : Inj mS ad) (u1 : Int32) (u2 : Int32) (I9 : (Nat → Int32)) (A9 : (Nat → Nat → Int32)) (y3 : Int32) (y4 : Int32) (y5 : Int32) (KX : ∀ (H : Heap) (locs : List Loc) (ls : Array Slot), WH D mS ad I9 A9 nR nG H → va_S (frS mS ad) s.heap H locs → lv_has ls 8 [(0, .ref (ad 99)), (2, .int u2), (3, .int y3), (4, .int y4)] → W p l e R0 s m args below meth c H locs cells slots Q (F0 m 211 ls [])) : ∀ (n : Nat) (I : (Nat → Int32)) (A : (Nat → Nat → Int32)) (x3 : Int32) (x4 : Int32) (x5 : Int32) (H : Heap) (locs : List Loc) (ls : Array Slot), m_scale_L70 u1 u2 n I A x3 x4 x5 = some (I9, A9, y3, y4, y5) → WH D mS ad I A nR nG H → va_S (frS mS ad) s.heap H locs → lv_has ls 8 [(0, .ref (ad 99)), (1, .int u1), (2, .int u2), (3, .int x3), (4, .int x4), (5, .int x5)] → W p l e R0 s m args below meth c H locs cells slots Q (F0 m 70 ls []) := by
  intro n
  have hA : ∀ i ∈ idxS mS, frS mS ad (ad i) := fun i hi => ⟨i, hi, rfl⟩
  induction n with
  | zero =>
    intro I A x3 x4 x5 H locs ls hf
    exact nomatch (show (none : Option ((Nat → Int32) × (Nat → Nat → Int32) × Int32 × Int32 × Int32)) = some (I9, A9, y3, y4, y5) from hf)
  | succ n ih =>
    intro I A x3 x4 x5 H locs ls hf hW hS hl
    have hf : (ob1 (ldO (A 0) 2044 7) fun (v1 : Int32) =>
        if ((1 : Int32) <<< (v1 &&& 31)) ≤ x5 then (some (I, A, x3, x4, x5)) else (ob2 (m_scale_L90 I A u1 u2 x3 x4 x5 NF 0 0) fun (v3 : Int32) (v4 : Int32) =>
          ob4 (if v3 = u1 then (ob1 (if x3 = 0 then ((some x5 : Option (Int32))) else ((some x4 : Option (Int32)))) fun (v10 : Int32) =>
              ob3 (m_scale_L162 u1 u2 (x3 + 1) v10 x5 NF I A 0) fun (I12 : Nat → Int32) (A13 : Nat → Nat → Int32) (v14 : Int32) =>
              (some (x3 + 1, v10, I12, A13) : Option (Int32 × Int32 × (Nat → Int32) × (Nat → Nat → Int32)))) else ((some (x3, x4, I, A) : Option (Int32 × Int32 × (Nat → Int32) × (Nat → Nat → Int32))))) fun (v5 : Int32) (v6 : Int32) (I7 : Nat → Int32) (A8 : Nat → Nat → Int32) =>
          m_scale_L70 u1 u2 n I7 A8 v5 v6 (x5 + 1))) = some (I9, A9, y3, y4, y5) := hf
    refine lv_iload hx hb dX3_scale_70 (lv_at hl 5 rfl) ?_
    refine lv_iconst (v := 1) hx hb dX3_scale_72 (by decide) ?_
    refine lv_aload_n hx hb dX3_scale_73 rfl (lv_at hl 0 rfl) ?_
    refine g_get (v := .ref (ad 0)) hx hb hts hown hK hW mO in_X3 rfl 0 (by decide) q1212 rfl rfl dX3_scale_74 ?_
    refine lv_bipush (v := 7) hx hb dX3_scale_77 (by decide) ?_
    obtain ⟨v1, hv1, hf⟩ := ob1_e hf
    refine g_iald hx hb hK hW mA0 hv1 dX3_scale_79 ?_
    refine lv_ishl hx hb dX3_scale_80 ?_
    refine lv_icmp_ge (tgt := 211) hx hb dX3_scale_81 (by decide) (fun c2 => ?_) (fun c2 => ?_)
    · rw [if_pos c2] at hf
      obtain ⟨rfl, rfl, rfl, rfl, rfl⟩ := so5 hf
      exact KX _ _ ls hW hS (lv_sub hl [0, 2, 3, 4] rfl)
    · rw [if_neg c2] at hf
      refine lv_iconst (v := 0) hx hb dX3_scale_84 (by decide) ?_
      refine lv_istore (lv' := [(6, .int 0), (0, .ref (ad 99)), (1, .int u1), (2, .int u2), (3, .int x3), (4, .int x4), (5, .int x5)]) hx hb dX3_scale_85 hl (by decide) rfl (fun ls hl => ?_)
      refine lv_iconst (v := 0) hx hb dX3_scale_87 (by decide) ?_
      refine lv_istore (lv' := [(7, .int 0), (6, .int 0), (0, .ref (ad 99)), (1, .int u1), (2, .int u2), (3, .int x3), (4, .int x4), (5, .int x5)]) hx hb dX3_scale_88 hl (by decide) rfl (fun ls hl => ?_)
      obtain ⟨v3, v4, hq4, hf⟩ := ob2_e hf
      refine m_scale_L90_w hx hb hml hown hts hK hRf hRl hcs I A u1 u2 x3 x4 x5 hW v3 v4 (fun ls hl => ?_) NF 0 0 ls hq4 (lv_sub hl [2, 3, 4, 5, 6, 7, 1, 0] rfl)
      refine lv_iload hx hb dX3_scale_137 (lv_at hl 6 rfl) ?_
      refine lv_iload_n hx hb dX3_scale_139 rfl (lv_at hl 1 rfl) ?_
      obtain ⟨v5, v6, I7, A8, hm8, hf⟩ := ob4_e hf
      refine w_cutH (A0 := frS mS ad) (H0 := s.heap) (X := WH D mS ad I7 A8 nR nG) (nL := 8) (L := [(0, .ref (ad 99)), (1, .int u1), (2, .int u2), (3, .int v5), (4, .int v6), (5, .int x5)]) (pcj := 205) (st := []) (fun H locs ls hW hS hl => ?_) (fun K8 => ?_)
      · refine lv_iinc (v := x5 + 1) (lv' := [(5, .int (x5 + 1)), (0, .ref (ad 99)), (1, .int u1), (2, .int u2), (3, .int v5), (4, .int v6)]) hx hb dX3_scale_205 hl (k := 5) rfl (by rfl) (by decide) rfl (fun ls hl => ?_)
        refine lv_goto (tgt := 70) hx hb dX3_scale_208 (by decide) ?_
        exact ih I7 A8 v5 v6 (x5 + 1) _ _ ls hf hW hS (lv_sub hl [1, 2, 3, 4, 5, 0] rfl)
      · refine lv_icmp_ne (tgt := 205) hx hb dX3_scale_140 (by decide) (fun c9 => ?_) (fun c9 => ?_)
        · rw [if_neg c9] at hm8
          obtain ⟨rfl, rfl, rfl, rfl⟩ := so4 hm8
          exact K8 _ _ ls hW hS (lv_sub hl [0, 1, 2, 3, 4, 5] rfl)
        · rw [if_pos c9] at hm8
          refine lv_iload_n hx hb dX3_scale_143 rfl (lv_at hl 3 rfl) ?_
          obtain ⟨v10, hm10, hm8⟩ := ob1_e hm8
          refine w_cutL (nL := 8) (L := [(0, .ref (ad 99)), (1, .int u1), (2, .int u2), (3, .int x3), (5, .int x5)]) (pcj := 154) (st := [.int v10]) (fun ls hl => ?_) (fun K10 => ?_)
          · refine lv_istore (lv' := [(4, .int v10), (0, .ref (ad 99)), (1, .int u1), (2, .int u2), (3, .int x3), (5, .int x5)]) hx hb dX3_scale_154 hl (by decide) rfl (fun ls hl => ?_)
            refine lv_iinc (v := x3 + 1) (lv' := [(3, .int (x3 + 1)), (4, .int v10), (0, .ref (ad 99)), (1, .int u1), (2, .int u2), (5, .int x5)]) hx hb dX3_scale_156 hl (k := 4) rfl (by rfl) (by decide) rfl (fun ls hl => ?_)
            refine lv_iconst (v := 0) hx hb dX3_scale_159 (by decide) ?_
            refine lv_istore (lv' := [(7, .int 0), (3, .int (x3 + 1)), (4, .int v10), (0, .ref (ad 99)), (1, .int u1), (2, .int u2), (5, .int x5)]) hx hb dX3_scale_160 hl (by decide) rfl (fun ls hl => ?_)
            obtain ⟨I12, A13, v14, hq14, hm8⟩ := ob3_e hm8
            refine m_scale_L162_w hx hb hml hown hts hK hRf hRl hcs hI u1 u2 (x3 + 1) v10 x5 I12 A13 v14 (fun H locs ls hW hS hl => ?_) NF I A 0 _ _ ls hq14 hW hS (lv_sub hl [3, 4, 5, 1, 2, 6, 0] rfl)
            obtain ⟨rfl, rfl, rfl, rfl⟩ := so4 hm8
            exact K8 _ _ ls hW hS (lv_sub hl [0, 1, 2, 3, 4, 5] rfl)
          · refine lv_if_ne (tgt := 152) hx hb dX3_scale_144 (by decide) (fun c11 => ?_) (fun c11 => ?_)
            · rw [if_neg c11] at hm10
              refine lv_iload hx hb dX3_scale_152 (lv_at hl 4 rfl) ?_
              obtain rfl := so1 hm10
              exact K10 ls (lv_sub hl [0, 1, 2, 3, 5] rfl)
            · rw [if_pos c11] at hm10
              refine lv_iload hx hb dX3_scale_147 (lv_at hl 5 rfl) ?_
              refine lv_goto (tgt := 154) hx hb dX3_scale_149 (by decide) ?_
              obtain rfl := so1 hm10
              exact K10 ls (lv_sub hl [0, 1, 2, 3, 5] rfl)
def m_scale_L226 (I : Nat → Int32) (A : Nat → Nat → Int32) (u2 : Int32) (u3 : Int32) (u4 : Int32) : Nat → Int32 → Int32 → Option (Int32 × Int32)
  | 0, _, _ => none
  | n + 1, x5, x6 =>
    if x6 < 0 then (some (x5, x6)) else (if u3 ≤ 0 then (some (x5, x6)) else (ob1 (if x5 = (-1000000) then ((some x6 : Option (Int32))) else (ob1 (ldO (A 15) 8 x6) fun (v5 : Int32) =>
            ob1 (m_plain ((2 * v5) - u3)) fun (v6 : Int32) =>
            ob1 (ldO (A 15) 8 x5) fun (v7 : Int32) =>
            ob1 (m_plain ((2 * v7) - u3)) fun (v8 : Int32) =>
            if v8 < v6 then ((some x5 : Option (Int32))) else ((some x6 : Option (Int32))))) fun (v3 : Int32) =>
        m_scale_L226 I A u2 u3 u4 n v3 (x6 + (-1))))
set_option maxRecDepth 100000 in
set_option maxHeartbeats 4000000 in
theorem m_scale_L226_w {p : Program} {l : Launch} {e : Env} {R0 : Room} {s : State} {m : MethodId} {args : Array Value} {below : List Frame} {meth : Method} {c : Code} {cells slots : Nat} {Q : State → Prop} {D : dd_} {ad : Nat → Nat} (hx : p.tables.exec = Jvm.exec) (hb : c.code = cX3_scale) (hml : c.maxLocals = 8) (hown : s.vm.findClass RX3 = some m.cls) (hts : ∀ w ∈ lw_all, w.before args s = true) (hK : Kx D s) (hRf : 2 ≤ R0.frames) (hRl : 41 ≤ R0.locals) (hcs : cells ≤ R0.cells ∧ slots ≤ R0.slots) {H : Heap} {locs : List Loc} (I : Nat → Int32) (A : Nat → Nat → Int32) (u2 : Int32) (u3 : Int32) (u4 : Int32) (hW : WH D mS ad I A nR nG H) (y5 : Int32) (y6 : Int32) (KX : ∀ (ls : Array Slot), lv_has ls 8 [(2, .int u2), (3, .int u3), (4, .int u4), (5, .int y5)] → W p l e R0 s m args below meth c H locs cells slots Q (F0 m 288 ls [])) : ∀ (n : Nat) (x5 : Int32) (x6 : Int32) (ls : Array Slot), m_scale_L226 I A u2 u3 u4 n x5 x6 = some (y5, y6) → lv_has ls 8 [(0, .ref (ad 99)), (2, .int u2), (3, .int u3), (4, .int u4), (5, .int x5), (6, .int x6)] → W p l e R0 s m args below meth c H locs cells slots Q (F0 m 226 ls []) := by
  intro n
  induction n with
  | zero =>
    intro x5 x6 ls hf
    exact nomatch (show (none : Option (Int32 × Int32)) = some (y5, y6) from hf)
  | succ n ih =>
    intro x5 x6 ls hf hl
    have hf : (if x6 < 0 then (some (x5, x6)) else (if u3 ≤ 0 then (some (x5, x6)) else (ob1 (if x5 = (-1000000) then ((some x6 : Option (Int32))) else (ob1 (ldO (A 15) 8 x6) fun (v5 : Int32) =>
                ob1 (m_plain ((2 * v5) - u3)) fun (v6 : Int32) =>
                ob1 (ldO (A 15) 8 x5) fun (v7 : Int32) =>
                ob1 (m_plain ((2 * v7) - u3)) fun (v8 : Int32) =>
                if v8 < v6 then ((some x5 : Option (Int32))) else ((some x6 : Option (Int32))))) fun (v3 : Int32) =>
            m_scale_L226 I A u2 u3 u4 n v3 (x6 + (-1))))) = some (y5, y6) := hf
    refine lv_iload hx hb dX3_scale_226 (lv_at hl 5 rfl) ?_
    refine lv_if_lt (tgt := 288) hx hb dX3_scale_228 (by decide) (fun c1 => ?_) (fun c1 => ?_)
    · rw [if_pos c1] at hf
      obtain ⟨rfl, rfl⟩ := so2 hf
      exact KX ls (lv_sub hl [1, 2, 3, 4] rfl)
    · rw [if_neg c1] at hf
      refine lv_iload_n hx hb dX3_scale_231 rfl (lv_at hl 2 rfl) ?_
      refine lv_if_le (tgt := 288) hx hb dX3_scale_232 (by decide) (fun c2 => ?_) (fun c2 => ?_)
      · rw [if_pos c2] at hf
        obtain ⟨rfl, rfl⟩ := so2 hf
        exact KX ls (lv_sub hl [1, 2, 3, 4] rfl)
      · rw [if_neg c2] at hf
        refine lv_iload hx hb dX3_scale_235 (lv_at hl 4 rfl) ?_
        refine lv_ldc (v := (-1000000)) hx hb hown (hts _ q1492) dX3_scale_237 ?_
        obtain ⟨v3, hm3, hf⟩ := ob1_e hf
        refine w_cutL (nL := 8) (L := [(0, .ref (ad 99)), (2, .int u2), (3, .int u3), (4, .int u4), (6, .int x6)]) (pcj := 280) (st := [.int v3]) (fun ls hl => ?_) (fun K3 => ?_)
        · refine lv_istore (lv' := [(5, .int v3), (0, .ref (ad 99)), (2, .int u2), (3, .int u3), (4, .int u4), (6, .int x6)]) hx hb dX3_scale_280 hl (by decide) rfl (fun ls hl => ?_)
          refine lv_iinc (v := x6 + (-1)) (lv' := [(6, .int (x6 + (-1))), (5, .int v3), (0, .ref (ad 99)), (2, .int u2), (3, .int u3), (4, .int u4)]) hx hb dX3_scale_282 hl (k := 5) rfl (by rfl) (by decide) rfl (fun ls hl => ?_)
          refine lv_goto (tgt := 226) hx hb dX3_scale_285 (by decide) ?_
          exact ih v3 (x6 + (-1)) ls hf (lv_sub hl [2, 3, 4, 5, 1, 0] rfl)
        · refine lv_icmp_eq (tgt := 273) hx hb dX3_scale_239 (by decide) (fun c4 => ?_) (fun c4 => ?_)
          · rw [if_pos c4] at hm3
            refine lv_iload hx hb dX3_scale_273 (lv_at hl 5 rfl) ?_
            refine lv_goto (tgt := 280) hx hb dX3_scale_275 (by decide) ?_
            obtain rfl := so1 hm3
            exact K3 ls (lv_sub hl [0, 1, 2, 3, 5] rfl)
          · rw [if_neg c4] at hm3
            refine lv_iconst (v := 2) hx hb dX3_scale_242 (by decide) ?_
            refine lv_aload_n hx hb dX3_scale_243 rfl (lv_at hl 0 rfl) ?_
            refine g_get (v := .ref (ad 15)) hx hb hts hown hK hW mO in_X3 rfl 15 (by decide) q1227 rfl rfl dX3_scale_244 ?_
            refine lv_iload hx hb dX3_scale_247 (lv_at hl 5 rfl) ?_
            obtain ⟨v5, hv5, hm3⟩ := ob1_e hm3
            refine g_iald hx hb hK hW mA15 hv5 dX3_scale_249 ?_
            refine lv_imul hx hb dX3_scale_250 ?_
            refine lv_iload_n hx hb dX3_scale_251 rfl (lv_at hl 2 rfl) ?_
            refine lv_isub hx hb dX3_scale_252 ?_
            obtain ⟨v6, h6, hm3⟩ := ob1_e hm3
            refine g_sR (ov := some (.int v6)) (D := D) (Sc := nS) (adc := ad) (Ic := (fun _ => 0)) (Ac := (fun _ _ => 0)) (Rc := nR) (Gc := nG) (As := [.int ((2 * v5) - u3)]) (rest := []) ⟨hx, hb, hml, hown, hts⟩ (m_plain_met l D ad ((2 * v5) - u3) v6 h6) (va_cwS 1 hts (lw_S q1489 q1490 q82 q1491) rfl rfl rfl m_plain_ds.2 ⟨Nat.le_trans (Nat.le_of_ble_eq_true rfl) hRf, Nat.le_trans (Nat.le_of_ble_eq_true rfl) hRl⟩) hK WH_nil hcs rfl hl.1 rfl (Nat.le_of_ble_eq_true rfl) dX3_scale_253 ?_
            refine lv_iconst (v := 2) hx hb dX3_scale_256 (by decide) ?_
            refine lv_aload_n hx hb dX3_scale_257 rfl (lv_at hl 0 rfl) ?_
            refine g_get (v := .ref (ad 15)) hx hb hts hown hK hW mO in_X3 rfl 15 (by decide) q1227 rfl rfl dX3_scale_258 ?_
            refine lv_iload hx hb dX3_scale_261 (lv_at hl 4 rfl) ?_
            obtain ⟨v7, hv7, hm3⟩ := ob1_e hm3
            refine g_iald hx hb hK hW mA15 hv7 dX3_scale_263 ?_
            refine lv_imul hx hb dX3_scale_264 ?_
            refine lv_iload_n hx hb dX3_scale_265 rfl (lv_at hl 2 rfl) ?_
            refine lv_isub hx hb dX3_scale_266 ?_
            obtain ⟨v8, h8, hm3⟩ := ob1_e hm3
            refine g_sR (ov := some (.int v8)) (D := D) (Sc := nS) (adc := ad) (Ic := (fun _ => 0)) (Ac := (fun _ _ => 0)) (Rc := nR) (Gc := nG) (As := [.int ((2 * v7) - u3)]) (rest := [.int v6]) ⟨hx, hb, hml, hown, hts⟩ (m_plain_met l D ad ((2 * v7) - u3) v8 h8) (va_cwS 1 hts (lw_S q1489 q1490 q82 q1491) rfl rfl rfl m_plain_ds.2 ⟨Nat.le_trans (Nat.le_of_ble_eq_true rfl) hRf, Nat.le_trans (Nat.le_of_ble_eq_true rfl) hRl⟩) hK WH_nil hcs rfl hl.1 rfl (Nat.le_of_ble_eq_true rfl) dX3_scale_267 ?_
            refine lv_icmp_gt (tgt := 278) hx hb dX3_scale_270 (by decide) (fun c9 => ?_) (fun c9 => ?_)
            · rw [if_pos c9] at hm3
              refine lv_iload hx hb dX3_scale_278 (lv_at hl 4 rfl) ?_
              obtain rfl := so1 hm3
              exact K3 ls (lv_sub hl [0, 1, 2, 3, 5] rfl)
            · rw [if_neg c9] at hm3
              refine lv_iload hx hb dX3_scale_273 (lv_at hl 5 rfl) ?_
              refine lv_goto (tgt := 280) hx hb dX3_scale_275 (by decide) ?_
              obtain rfl := so1 hm3
              exact K3 ls (lv_sub hl [0, 1, 2, 3, 5] rfl)
def m_scale (I : Nat → Int32) (A : Nat → Nat → Int32) (a0 : Int32) (a1 : Int32) : Option (Int32 × (Nat → Int32) × (Nat → Nat → Int32)) :=
  ob1 (m_isNone I A ) fun (v1 : Int32) =>
  if v1 = 0 then (ob1 (m_in a0.toInt64 0 200) fun (v3 : Int32) =>
    if v3 = 0 then (some ((-1000001), I, A)) else (ob1 (m_in a1.toInt64 0 2) fun (v5 : Int32) =>
      if v5 = 0 then (some ((-1000001), I, A)) else (ob3 (m_scale_L46 a0 a1 0 (-1000000) NF I A 0) fun (I7 : Nat → Int32) (A8 : Nat → Nat → Int32) (v9 : Int32) =>
        ob5 (m_scale_L70 a0 a1 NF I7 A8 0 (-1000000) 0) fun (I10 : Nat → Int32) (A11 : Nat → Nat → Int32) (v12 : Int32) (v13 : Int32) (v14 : Int32) =>
        ob1 (ldO (A11 0) 2044 7) fun (v15 : Int32) =>
        ob2 (m_scale_L226 I10 A11 a1 v12 v13 NF (-1000000) (v15 - 1)) fun (v16 : Int32) (v17 : Int32) =>
        ob1 (if a1 = 0 then ((some v12 : Option (Int32))) else (if a1 = 1 then ((some v13 : Option (Int32))) else ((some v16 : Option (Int32))))) fun (v18 : Int32) =>
        some (v18, I10, A11)))) else (some ((-1000002), I, A))
set_option maxRecDepth 100000 in
set_option maxHeartbeats 4000000 in
theorem m_scale_met (l : Launch) (D : dd_) (ad : Nat → Nat) (hI : Inj mS ad) (I : Nat → Int32) (A : Nat → Nat → Int32) (a0 : Int32) (a1 : Int32) (r : Int32) (I1 : (Nat → Int32)) (A1 : (Nat → Nat → Int32)) (hf : m_scale I A a0 a1 = some (r, I1, A1)) : Met l yX3_scale (ws_ yX3_scale cX3_scale 8 (some .int)) ({ frames := 2, cells := 0, slots := 0, locals := 41 }) (PcW D mS ad I A nR nG [.ref (ad 99), .int a0, .int a1]) (QcW D mS ad I1 A1 nR nG (some (.int r))) 0 0 (frS mS ad) := by
  refine Met.ofW (cc := cX3_scale) (maxL := 8) (ret := (some .int)) (by decide) rfl ?_
  intro p e s m args below meth c s₁ B hml hv
  obtain ⟨rfl, hK, hW⟩ := hv
  have hx := B.exec
  have hb := B.bytes
  have hr := B.returns
  have hts := atoms_spec (ws := (ws_ yX3_scale cX3_scale 8 (some .int))) B.pre
  have hts : ∀ w ∈ lw_all, w.before _ s = true := fun w h => hts w (List.mem_cons_of_mem _ h)
  have hown : s.vm.findClass RX3 = some m.cls := findClass_of_methodNamed B.named
  have hlocks := B.notSynchronized
  have hRf : 2 ≤ (headSpec (ws_ yX3_scale cX3_scale 8 (some .int)) ({ frames := 2, cells := 0, slots := 0, locals := 41 })).room.frames := Nat.le_refl _
  have hRl : 41 ≤ (headSpec (ws_ yX3_scale cX3_scale 8 (some .int)) ({ frames := 2, cells := 0, slots := 0, locals := 41 })).room.locals := Nat.le_refl _
  have hcs : 0 ≤ (headSpec (ws_ yX3_scale cX3_scale 8 (some .int)) ({ frames := 2, cells := 0, slots := 0, locals := 41 })).room.cells ∧ 0 ≤ (headSpec (ws_ yX3_scale cX3_scale 8 (some .int)) ({ frames := 2, cells := 0, slots := 0, locals := 41 })).room.slots := ⟨Nat.zero_le _, Nat.zero_le _⟩
  have hA : ∀ i ∈ idxS mS, frS mS ad (ad i) := fun i hi => ⟨i, hi, rfl⟩
  have hS : va_S (frS mS ad) s.heap s.heap [] := va_S.rf
  have hl := lv_entry ([.ref (ad 99), .int a0, .int a1]) (n := 8) (Nat.le_of_ble_eq_true rfl)
  rw [lg_entry_eq]
  generalize (lg_sl ([.ref (ad 99), .int a0, .int a1]) ++ List.replicate (8 - (lg_sl ([.ref (ad 99), .int a0, .int a1])).length) Slot.unset).toArray = ls at hl ⊢
  have hl : lv_has ls 8 [(0, .ref (ad 99)), (1, .int a0), (2, .int a1)] := hl
  have hf : (ob1 (m_isNone I A ) fun (v1 : Int32) =>
    if v1 = 0 then (ob1 (m_in a0.toInt64 0 200) fun (v3 : Int32) =>
      if v3 = 0 then (some ((-1000001), I, A)) else (ob1 (m_in a1.toInt64 0 2) fun (v5 : Int32) =>
        if v5 = 0 then (some ((-1000001), I, A)) else (ob3 (m_scale_L46 a0 a1 0 (-1000000) NF I A 0) fun (I7 : Nat → Int32) (A8 : Nat → Nat → Int32) (v9 : Int32) =>
          ob5 (m_scale_L70 a0 a1 NF I7 A8 0 (-1000000) 0) fun (I10 : Nat → Int32) (A11 : Nat → Nat → Int32) (v12 : Int32) (v13 : Int32) (v14 : Int32) =>
          ob1 (ldO (A11 0) 2044 7) fun (v15 : Int32) =>
          ob2 (m_scale_L226 I10 A11 a1 v12 v13 NF (-1000000) (v15 - 1)) fun (v16 : Int32) (v17 : Int32) =>
          ob1 (if a1 = 0 then ((some v12 : Option (Int32))) else (if a1 = 1 then ((some v13 : Option (Int32))) else ((some v16 : Option (Int32))))) fun (v18 : Int32) =>
          some (v18, I10, A11)))) else (some ((-1000002), I, A))) = some (r, I1, A1) := hf
  refine lv_aload_n hx hb dX3_scale_0 rfl (lv_at hl 0 rfl) ?_
  obtain ⟨v1, h1, hf⟩ := ob1_e hf
  refine g_vR (ov := some (.int v1)) (D := D) (Sc := mS) (adc := ad) (Ic := I) (Ac := A) (Rc := nR) (Gc := nG) (As := []) (rest := []) (b := ad 99) (C := RX3) ⟨hx, hb, hml, hown, hts⟩ (m_isNone_met l D ad I A  v1 h1) (g_cwV 0 hts (lw_V q1446 q1448 qs53 q82 q1449) rfl rfl m_isNone_ds ⟨Nat.le_trans (Nat.le_of_ble_eq_true rfl) hRf, Nat.le_trans (Nat.le_of_ble_eq_true rfl) hRl⟩) (g_recv hK hW mO rfl) hK hW hcs rfl hl.1 rfl (Nat.le_of_ble_eq_true rfl) dX3_scale_1 ?_
  refine lv_if_eq (tgt := 10) hx hb dX3_scale_4 (by decide) (fun c2 => ?_) (fun c2 => ?_)
  · rw [if_pos c2] at hf
    refine lv_iload_n hx hb dX3_scale_10 rfl (lv_at hl 1 rfl) ?_
    refine lv_i2l (v := a0.toInt64) hx hb dX3_scale_11 rfl ?_
    refine lv_lconst (v := 0) hx hb dX3_scale_12 (by decide) ?_
    refine lv_ldc2 (v := 200) hx hb hown (hts _ q1535) dX3_scale_13 ?_
    obtain ⟨v3, h3, hf⟩ := ob1_e hf
    refine g_sR (ov := some (.int v3)) (D := D) (Sc := nS) (adc := ad) (Ic := (fun _ => 0)) (Ac := (fun _ _ => 0)) (Rc := nR) (Gc := nG) (As := [.long a0.toInt64, .long 0, .long 200]) (rest := []) ⟨hx, hb, hml, hown, hts⟩ (m_in_met l D ad a0.toInt64 0 200 v3 h3) (va_cwS 3 hts (lw_S q1294 q1295 q82 q1296) rfl rfl rfl m_in_ds.2 ⟨Nat.le_trans (Nat.le_of_ble_eq_true rfl) hRf, Nat.le_trans (Nat.le_of_ble_eq_true rfl) hRl⟩) hK WH_nil hcs rfl hl.1 rfl (Nat.le_of_ble_eq_true rfl) dX3_scale_16 ?_
    refine lv_if_eq (tgt := 34) hx hb dX3_scale_19 (by decide) (fun c4 => ?_) (fun c4 => ?_)
    · rw [if_pos c4] at hf
      refine lv_ldc (v := (-1000001)) hx hb hown (hts _ q1298) dX3_scale_34 ?_
      obtain ⟨rfl, rfl, rfl⟩ := so3 hf
      exact W.iret hx hb hr (fun t ht _ => ⟨rfl, by rw [ht]; exact hW, hS.F ht⟩) hS.2.2 dX3_scale_36
    · rw [if_neg c4] at hf
      refine lv_iload_n hx hb dX3_scale_22 rfl (lv_at hl 2 rfl) ?_
      refine lv_i2l (v := a1.toInt64) hx hb dX3_scale_23 rfl ?_
      refine lv_lconst (v := 0) hx hb dX3_scale_24 (by decide) ?_
      refine lv_ldc2 (v := 2) hx hb hown (hts _ q1297) dX3_scale_25 ?_
      obtain ⟨v5, h5, hf⟩ := ob1_e hf
      refine g_sR (ov := some (.int v5)) (D := D) (Sc := nS) (adc := ad) (Ic := (fun _ => 0)) (Ac := (fun _ _ => 0)) (Rc := nR) (Gc := nG) (As := [.long a1.toInt64, .long 0, .long 2]) (rest := []) ⟨hx, hb, hml, hown, hts⟩ (m_in_met l D ad a1.toInt64 0 2 v5 h5) (va_cwS 3 hts (lw_S q1294 q1295 q82 q1296) rfl rfl rfl m_in_ds.2 ⟨Nat.le_trans (Nat.le_of_ble_eq_true rfl) hRf, Nat.le_trans (Nat.le_of_ble_eq_true rfl) hRl⟩) hK WH_nil hcs rfl hl.1 rfl (Nat.le_of_ble_eq_true rfl) dX3_scale_28 ?_
      refine lv_if_ne (tgt := 37) hx hb dX3_scale_31 (by decide) (fun c6 => ?_) (fun c6 => ?_)
      · rw [if_neg c6] at hf
        refine lv_iconst (v := 0) hx hb dX3_scale_37 (by decide) ?_
        refine lv_istore_n (lv' := [(3, .int 0), (0, .ref (ad 99)), (1, .int a0), (2, .int a1)]) hx hb dX3_scale_38 rfl hl (by decide) rfl (fun ls hl => ?_)
        refine lv_ldc (v := (-1000000)) hx hb hown (hts _ q1492) dX3_scale_39 ?_
        refine lv_istore (lv' := [(4, .int (-1000000)), (3, .int 0), (0, .ref (ad 99)), (1, .int a0), (2, .int a1)]) hx hb dX3_scale_41 hl (by decide) rfl (fun ls hl => ?_)
        refine lv_iconst (v := 0) hx hb dX3_scale_43 (by decide) ?_
        refine lv_istore (lv' := [(5, .int 0), (4, .int (-1000000)), (3, .int 0), (0, .ref (ad 99)), (1, .int a0), (2, .int a1)]) hx hb dX3_scale_44 hl (by decide) rfl (fun ls hl => ?_)
        obtain ⟨I7, A8, v9, hq9, hf⟩ := ob3_e hf
        refine m_scale_L46_w hx hb hml hown hts hK hRf hRl hcs hI a0 a1 0 (-1000000) I7 A8 v9 (fun H locs ls hW hS hl => ?_) NF I A 0 _ _ ls hq9 hW hS (lv_sub hl [3, 4, 5, 2, 1, 0] rfl)
        refine lv_iconst (v := 0) hx hb dX3_scale_67 (by decide) ?_
        refine lv_istore (lv' := [(5, .int 0), (0, .ref (ad 99)), (1, .int a0), (2, .int a1), (3, .int 0), (4, .int (-1000000))]) hx hb dX3_scale_68 hl (by decide) rfl (fun ls hl => ?_)
        obtain ⟨I10, A11, v12, v13, v14, hq14, hf⟩ := ob5_e hf
        refine m_scale_L70_w hx hb hml hown hts hK hRf hRl hcs hI a0 a1 I10 A11 v12 v13 v14 (fun H locs ls hW hS hl => ?_) NF I7 A8 0 (-1000000) 0 _ _ ls hq14 hW hS (lv_sub hl [1, 2, 3, 4, 5, 0] rfl)
        refine lv_ldc (v := (-1000000)) hx hb hown (hts _ q1492) dX3_scale_211 ?_
        refine lv_istore (lv' := [(5, .int (-1000000)), (0, .ref (ad 99)), (2, .int a1), (3, .int v12), (4, .int v13)]) hx hb dX3_scale_213 hl (by decide) rfl (fun ls hl => ?_)
        refine lv_aload_n hx hb dX3_scale_215 rfl (lv_at hl 1 rfl) ?_
        refine g_get (v := .ref (ad 0)) hx hb hts hown hK hW mO in_X3 rfl 0 (by decide) q1212 rfl rfl dX3_scale_216 ?_
        refine lv_bipush (v := 7) hx hb dX3_scale_219 (by decide) ?_
        obtain ⟨v15, hv15, hf⟩ := ob1_e hf
        refine g_iald hx hb hK hW mA0 hv15 dX3_scale_221 ?_
        refine lv_iconst (v := 1) hx hb dX3_scale_222 (by decide) ?_
        refine lv_isub hx hb dX3_scale_223 ?_
        refine lv_istore (lv' := [(6, .int (v15 - 1)), (5, .int (-1000000)), (0, .ref (ad 99)), (2, .int a1), (3, .int v12), (4, .int v13)]) hx hb dX3_scale_224 hl (by decide) rfl (fun ls hl => ?_)
        obtain ⟨v16, v17, hq17, hf⟩ := ob2_e hf
        refine m_scale_L226_w hx hb hml hown hts hK hRf hRl hcs I10 A11 a1 v12 v13 hW v16 v17 (fun ls hl => ?_) NF (-1000000) (v15 - 1) ls hq17 (lv_sub hl [2, 3, 4, 5, 1, 0] rfl)
        refine lv_iload_n hx hb dX3_scale_288 rfl (lv_at hl 0 rfl) ?_
        obtain ⟨v18, hm18, hf⟩ := ob1_e hf
        refine w_cutL (nL := 8) (L := []) (pcj := 308) (st := [.int v18]) (fun ls hl => ?_) (fun K18 => ?_)
        · obtain ⟨rfl, rfl, rfl⟩ := so3 hf
          exact W.iret hx hb hr (fun t ht _ => ⟨rfl, by rw [ht]; exact hW, hS.F ht⟩) hS.2.2 dX3_scale_308
        · refine lv_if_ne (tgt := 296) hx hb dX3_scale_289 (by decide) (fun c19 => ?_) (fun c19 => ?_)
          · rw [if_neg c19] at hm18
            refine lv_iload_n hx hb dX3_scale_296 rfl (lv_at hl 0 rfl) ?_
            refine lv_iconst (v := 1) hx hb dX3_scale_297 (by decide) ?_
            refine lv_icmp_ne (tgt := 306) hx hb dX3_scale_298 (by decide) (fun c20 => ?_) (fun c20 => ?_)
            · rw [if_neg c20] at hm18
              refine lv_iload hx hb dX3_scale_306 (lv_at hl 3 rfl) ?_
              obtain rfl := so1 hm18
              exact K18 ls (lv_sub hl [] rfl)
            · rw [if_pos c20] at hm18
              refine lv_iload hx hb dX3_scale_301 (lv_at hl 2 rfl) ?_
              refine lv_goto (tgt := 308) hx hb dX3_scale_303 (by decide) ?_
              obtain rfl := so1 hm18
              exact K18 ls (lv_sub hl [] rfl)
          · rw [if_pos c19] at hm18
            refine lv_iload_n hx hb dX3_scale_292 rfl (lv_at hl 1 rfl) ?_
            refine lv_goto (tgt := 308) hx hb dX3_scale_293 (by decide) ?_
            obtain rfl := so1 hm18
            exact K18 ls (lv_sub hl [] rfl)
      · rw [if_pos c6] at hf
        refine lv_ldc (v := (-1000001)) hx hb hown (hts _ q1298) dX3_scale_34 ?_
        obtain ⟨rfl, rfl, rfl⟩ := so3 hf
        exact W.iret hx hb hr (fun t ht _ => ⟨rfl, by rw [ht]; exact hW, hS.F ht⟩) hS.2.2 dX3_scale_36
  · rw [if_neg c2] at hf
    refine lv_ldc (v := (-1000002)) hx hb hown (hts _ q1391) dX3_scale_7 ?_
    obtain ⟨rfl, rfl, rfl⟩ := so3 hf
    exact W.iret hx hb hr (fun t ht _ => ⟨rfl, by rw [ht]; exact hW, hS.F ht⟩) hS.2.2 dX3_scale_9
theorem m_scale_ds : yX3_scale.cls = RX3 ∧ yX3_scale.cls ≠ "java/lang/invoke/MethodHandle" ∧ yX3_scale.cls ≠ "java/lang/invoke/VarHandle" ∧ (parseMethodDescriptor yX3_scale.desc).map (fun d => d.parameters.length) = some 2 := by decide +kernel
/-! lies -/
def m_lies_L50 (I : Nat → Int32) (A : Nat → Nat → Int32) (u1 : Int32) (u2 : Int32) : Nat → Int32 → Int32 → Option (Int32 × Int32)
  | 0, _, _ => none
  | n + 1, x4, x5 =>
    ob1 (ldO (A 0) 2044 6) fun (v1 : Int32) =>
    if v1 ≤ x5 then (some (x4, x5)) else (ob1 (m_loadOf I A x5) fun (v3 : Int32) =>
      ob1 (ldO (A 5) 320 (((40 * u1) + u2) + x5)) fun (v4 : Int32) =>
      ob1 (if v4 ≤ v3 then ((some 0 : Option (Int32))) else ((some ((1 : Int32) <<< (x5 &&& 31)) : Option (Int32)))) fun (v5 : Int32) =>
      m_lies_L50 I A u1 u2 n (x4 ||| v5) (x5 + 1))
set_option maxRecDepth 100000 in
set_option maxHeartbeats 4000000 in
theorem m_lies_L50_w {p : Program} {l : Launch} {e : Env} {R0 : Room} {s : State} {m : MethodId} {args : Array Value} {below : List Frame} {meth : Method} {c : Code} {cells slots : Nat} {Q : State → Prop} {D : dd_} {ad : Nat → Nat} (hx : p.tables.exec = Jvm.exec) (hb : c.code = cX3_lies) (hml : c.maxLocals = 6) (hown : s.vm.findClass RX3 = some m.cls) (hts : ∀ w ∈ lw_all, w.before args s = true) (hK : Kx D s) (hRf : 4 ≤ R0.frames) (hRl : 82 ≤ R0.locals) (hcs : cells ≤ R0.cells ∧ slots ≤ R0.slots) {H : Heap} {locs : List Loc} (I : Nat → Int32) (A : Nat → Nat → Int32) (u1 : Int32) (u2 : Int32) (hW : WH D mS ad I A nR nG H) (y4 : Int32) (y5 : Int32) (KX : ∀ (ls : Array Slot), lv_has ls 6 [(0, .ref (ad 99)), (4, .int y4)] → W p l e R0 s m args below meth c H locs cells slots Q (F0 m 104 ls [])) : ∀ (n : Nat) (x4 : Int32) (x5 : Int32) (ls : Array Slot), m_lies_L50 I A u1 u2 n x4 x5 = some (y4, y5) → lv_has ls 6 [(0, .ref (ad 99)), (1, .int u1), (2, .int u2), (4, .int x4), (5, .int x5)] → W p l e R0 s m args below meth c H locs cells slots Q (F0 m 50 ls []) := by
  intro n
  induction n with
  | zero =>
    intro x4 x5 ls hf
    exact nomatch (show (none : Option (Int32 × Int32)) = some (y4, y5) from hf)
  | succ n ih =>
    intro x4 x5 ls hf hl
    have hf : (ob1 (ldO (A 0) 2044 6) fun (v1 : Int32) =>
        if v1 ≤ x5 then (some (x4, x5)) else (ob1 (m_loadOf I A x5) fun (v3 : Int32) =>
          ob1 (ldO (A 5) 320 (((40 * u1) + u2) + x5)) fun (v4 : Int32) =>
          ob1 (if v4 ≤ v3 then ((some 0 : Option (Int32))) else ((some ((1 : Int32) <<< (x5 &&& 31)) : Option (Int32)))) fun (v5 : Int32) =>
          m_lies_L50 I A u1 u2 n (x4 ||| v5) (x5 + 1))) = some (y4, y5) := hf
    refine lv_iload hx hb dX3_lies_50 (lv_at hl 4 rfl) ?_
    refine lv_aload_n hx hb dX3_lies_52 rfl (lv_at hl 0 rfl) ?_
    refine g_get (v := .ref (ad 0)) hx hb hts hown hK hW mO in_X3 rfl 0 (by decide) q1212 rfl rfl dX3_lies_53 ?_
    refine lv_bipush (v := 6) hx hb dX3_lies_56 (by decide) ?_
    obtain ⟨v1, hv1, hf⟩ := ob1_e hf
    refine g_iald hx hb hK hW mA0 hv1 dX3_lies_58 ?_
    refine lv_icmp_ge (tgt := 104) hx hb dX3_lies_59 (by decide) (fun c2 => ?_) (fun c2 => ?_)
    · rw [if_pos c2] at hf
      obtain ⟨rfl, rfl⟩ := so2 hf
      exact KX ls (lv_sub hl [0, 3] rfl)
    · rw [if_neg c2] at hf
      refine lv_iload hx hb dX3_lies_62 (lv_at hl 3 rfl) ?_
      refine lv_aload_n hx hb dX3_lies_64 rfl (lv_at hl 0 rfl) ?_
      refine lv_iload hx hb dX3_lies_65 (lv_at hl 4 rfl) ?_
      obtain ⟨v3, h3, hf⟩ := ob1_e hf
      refine g_vR (ov := some (.int v3)) (D := D) (Sc := mS) (adc := ad) (Ic := I) (Ac := A) (Rc := nR) (Gc := nG) (As := [.int x5]) (rest := [.int x4]) (b := ad 99) (C := RX3) ⟨hx, hb, hml, hown, hts⟩ (m_loadOf_met l D ad I A x5 v3 h3) (g_cwV 1 hts (lw_V q1409 q1411 qs49 q82 q1412) rfl rfl m_loadOf_ds ⟨Nat.le_trans (Nat.le_of_ble_eq_true rfl) hRf, Nat.le_trans (Nat.le_of_ble_eq_true rfl) hRl⟩) (g_recv hK hW mO rfl) hK hW hcs rfl hl.1 rfl (Nat.le_of_ble_eq_true rfl) dX3_lies_67 ?_
      refine lv_aload_n hx hb dX3_lies_70 rfl (lv_at hl 0 rfl) ?_
      refine g_get (v := .ref (ad 5)) hx hb hts hown hK hW mO in_X3 rfl 5 (by decide) q1217 rfl rfl dX3_lies_71 ?_
      refine lv_bipush (v := 40) hx hb dX3_lies_74 (by decide) ?_
      refine lv_iload_n hx hb dX3_lies_76 rfl (lv_at hl 1 rfl) ?_
      refine lv_imul hx hb dX3_lies_77 ?_
      refine lv_iload_n hx hb dX3_lies_78 rfl (lv_at hl 2 rfl) ?_
      refine lv_iadd hx hb dX3_lies_79 ?_
      refine lv_iload hx hb dX3_lies_80 (lv_at hl 4 rfl) ?_
      refine lv_iadd hx hb dX3_lies_82 ?_
      obtain ⟨v4, hv4, hf⟩ := ob1_e hf
      refine g_iald hx hb hK hW mA5 hv4 dX3_lies_83 ?_
      obtain ⟨v5, hm5, hf⟩ := ob1_e hf
      refine w_cutL (nL := 6) (L := [(0, .ref (ad 99)), (1, .int u1), (2, .int u2), (5, .int x5)]) (pcj := 95) (st := [.int v5, .int x4]) (fun ls hl => ?_) (fun K5 => ?_)
      · refine lv_ior hx hb dX3_lies_95 ?_
        refine lv_istore (lv' := [(4, .int (x4 ||| v5)), (0, .ref (ad 99)), (1, .int u1), (2, .int u2), (5, .int x5)]) hx hb dX3_lies_96 hl (by decide) rfl (fun ls hl => ?_)
        refine lv_iinc (v := x5 + 1) (lv' := [(5, .int (x5 + 1)), (4, .int (x4 ||| v5)), (0, .ref (ad 99)), (1, .int u1), (2, .int u2)]) hx hb dX3_lies_98 hl (k := 4) rfl (by rfl) (by decide) rfl (fun ls hl => ?_)
        refine lv_goto (tgt := 50) hx hb dX3_lies_101 (by decide) ?_
        exact ih (x4 ||| v5) (x5 + 1) ls hf (lv_sub hl [2, 3, 4, 1, 0] rfl)
      · refine lv_icmp_ge (tgt := 94) hx hb dX3_lies_84 (by decide) (fun c6 => ?_) (fun c6 => ?_)
        · rw [if_pos c6] at hm5
          refine lv_iconst (v := 0) hx hb dX3_lies_94 (by decide) ?_
          obtain rfl := so1 hm5
          exact K5 ls (lv_sub hl [0, 1, 2, 4] rfl)
        · rw [if_neg c6] at hm5
          refine lv_iconst (v := 1) hx hb dX3_lies_87 (by decide) ?_
          refine lv_iload hx hb dX3_lies_88 (lv_at hl 4 rfl) ?_
          refine lv_ishl hx hb dX3_lies_90 ?_
          refine lv_goto (tgt := 95) hx hb dX3_lies_91 (by decide) ?_
          obtain rfl := so1 hm5
          exact K5 ls (lv_sub hl [0, 1, 2, 4] rfl)
def m_lies (I : Nat → Int32) (A : Nat → Nat → Int32) (a0 : Int32) (a1 : Int32) : Option (Int32 × (Nat → Int32) × (Nat → Nat → Int32)) :=
  ob1 (m_isNone I A ) fun (v1 : Int32) =>
  if v1 = 0 then (ob1 (m_isRow a0) fun (v3 : Int32) =>
    if v3 = 0 then (some ((-1000001), I, A)) else (ob1 (ldO (A 0) 2044 6) fun (v5 : Int32) =>
      ob1 (m_against I A a0 a1 v5) fun (v6 : Int32) =>
      if v6 ≤ 0 then (ob2 (m_lies_L50 I A a0 a1 NF 0 0) fun (v8 : Int32) (v9 : Int32) =>
        ob3 (m_well I A v8) fun (v10 : Int32) (I11 : Nat → Int32) (A12 : Nat → Nat → Int32) =>
        some (v10, I11, A12)) else (ob3 (m_found I A v6) fun (v13 : Int32) (I14 : Nat → Int32) (A15 : Nat → Nat → Int32) =>
        some (v13, I14, A15)))) else (some ((-1000002), I, A))
set_option maxRecDepth 100000 in
set_option maxHeartbeats 4000000 in
theorem m_lies_met (l : Launch) (D : dd_) (ad : Nat → Nat) (hI : Inj mS ad) (I : Nat → Int32) (A : Nat → Nat → Int32) (a0 : Int32) (a1 : Int32) (r : Int32) (I1 : (Nat → Int32)) (A1 : (Nat → Nat → Int32)) (hf : m_lies I A a0 a1 = some (r, I1, A1)) : Met l yX3_lies (ws_ yX3_lies cX3_lies 6 (some .int)) ({ frames := 4, cells := 0, slots := 0, locals := 82 }) (PcW D mS ad I A nR nG [.ref (ad 99), .int a0, .int a1]) (QcW D mS ad I1 A1 nR nG (some (.int r))) 0 0 (frS mS ad) := by
  refine Met.ofW (cc := cX3_lies) (maxL := 6) (ret := (some .int)) (by decide) rfl ?_
  intro p e s m args below meth c s₁ B hml hv
  obtain ⟨rfl, hK, hW⟩ := hv
  have hx := B.exec
  have hb := B.bytes
  have hr := B.returns
  have hts := atoms_spec (ws := (ws_ yX3_lies cX3_lies 6 (some .int))) B.pre
  have hts : ∀ w ∈ lw_all, w.before _ s = true := fun w h => hts w (List.mem_cons_of_mem _ h)
  have hown : s.vm.findClass RX3 = some m.cls := findClass_of_methodNamed B.named
  have hlocks := B.notSynchronized
  have hRf : 4 ≤ (headSpec (ws_ yX3_lies cX3_lies 6 (some .int)) ({ frames := 4, cells := 0, slots := 0, locals := 82 })).room.frames := Nat.le_refl _
  have hRl : 82 ≤ (headSpec (ws_ yX3_lies cX3_lies 6 (some .int)) ({ frames := 4, cells := 0, slots := 0, locals := 82 })).room.locals := Nat.le_refl _
  have hcs : 0 ≤ (headSpec (ws_ yX3_lies cX3_lies 6 (some .int)) ({ frames := 4, cells := 0, slots := 0, locals := 82 })).room.cells ∧ 0 ≤ (headSpec (ws_ yX3_lies cX3_lies 6 (some .int)) ({ frames := 4, cells := 0, slots := 0, locals := 82 })).room.slots := ⟨Nat.zero_le _, Nat.zero_le _⟩
  have hA : ∀ i ∈ idxS mS, frS mS ad (ad i) := fun i hi => ⟨i, hi, rfl⟩
  have hS : va_S (frS mS ad) s.heap s.heap [] := va_S.rf
  have hl := lv_entry ([.ref (ad 99), .int a0, .int a1]) (n := 6) (Nat.le_of_ble_eq_true rfl)
  rw [lg_entry_eq]
  generalize (lg_sl ([.ref (ad 99), .int a0, .int a1]) ++ List.replicate (6 - (lg_sl ([.ref (ad 99), .int a0, .int a1])).length) Slot.unset).toArray = ls at hl ⊢
  have hl : lv_has ls 6 [(0, .ref (ad 99)), (1, .int a0), (2, .int a1)] := hl
  have hf : (ob1 (m_isNone I A ) fun (v1 : Int32) =>
    if v1 = 0 then (ob1 (m_isRow a0) fun (v3 : Int32) =>
      if v3 = 0 then (some ((-1000001), I, A)) else (ob1 (ldO (A 0) 2044 6) fun (v5 : Int32) =>
        ob1 (m_against I A a0 a1 v5) fun (v6 : Int32) =>
        if v6 ≤ 0 then (ob2 (m_lies_L50 I A a0 a1 NF 0 0) fun (v8 : Int32) (v9 : Int32) =>
          ob3 (m_well I A v8) fun (v10 : Int32) (I11 : Nat → Int32) (A12 : Nat → Nat → Int32) =>
          some (v10, I11, A12)) else (ob3 (m_found I A v6) fun (v13 : Int32) (I14 : Nat → Int32) (A15 : Nat → Nat → Int32) =>
          some (v13, I14, A15)))) else (some ((-1000002), I, A))) = some (r, I1, A1) := hf
  refine lv_aload_n hx hb dX3_lies_0 rfl (lv_at hl 0 rfl) ?_
  obtain ⟨v1, h1, hf⟩ := ob1_e hf
  refine g_vR (ov := some (.int v1)) (D := D) (Sc := mS) (adc := ad) (Ic := I) (Ac := A) (Rc := nR) (Gc := nG) (As := []) (rest := []) (b := ad 99) (C := RX3) ⟨hx, hb, hml, hown, hts⟩ (m_isNone_met l D ad I A  v1 h1) (g_cwV 0 hts (lw_V q1446 q1448 qs53 q82 q1449) rfl rfl m_isNone_ds ⟨Nat.le_trans (Nat.le_of_ble_eq_true rfl) hRf, Nat.le_trans (Nat.le_of_ble_eq_true rfl) hRl⟩) (g_recv hK hW mO rfl) hK hW hcs rfl hl.1 rfl (Nat.le_of_ble_eq_true rfl) dX3_lies_1 ?_
  refine lv_if_eq (tgt := 10) hx hb dX3_lies_4 (by decide) (fun c2 => ?_) (fun c2 => ?_)
  · rw [if_pos c2] at hf
    refine lv_iload_n hx hb dX3_lies_10 rfl (lv_at hl 1 rfl) ?_
    obtain ⟨v3, h3, hf⟩ := ob1_e hf
    refine g_sR (ov := some (.int v3)) (D := D) (Sc := nS) (adc := ad) (Ic := (fun _ => 0)) (Ac := (fun _ _ => 0)) (Rc := nR) (Gc := nG) (As := [.int a0]) (rest := []) ⟨hx, hb, hml, hown, hts⟩ (m_isRow_met l D ad a0 v3 h3) (va_cwS 1 hts (lw_S q1290 q1291 q82 q1292) rfl rfl rfl m_isRow_ds.2 ⟨Nat.le_trans (Nat.le_of_ble_eq_true rfl) hRf, Nat.le_trans (Nat.le_of_ble_eq_true rfl) hRl⟩) hK WH_nil hcs rfl hl.1 rfl (Nat.le_of_ble_eq_true rfl) dX3_lies_11 ?_
    refine lv_if_ne (tgt := 20) hx hb dX3_lies_14 (by decide) (fun c4 => ?_) (fun c4 => ?_)
    · rw [if_neg c4] at hf
      refine lv_aload_n hx hb dX3_lies_20 rfl (lv_at hl 0 rfl) ?_
      refine lv_iload_n hx hb dX3_lies_21 rfl (lv_at hl 1 rfl) ?_
      refine lv_iload_n hx hb dX3_lies_22 rfl (lv_at hl 2 rfl) ?_
      refine lv_aload_n hx hb dX3_lies_23 rfl (lv_at hl 0 rfl) ?_
      refine g_get (v := .ref (ad 0)) hx hb hts hown hK hW mO in_X3 rfl 0 (by decide) q1212 rfl rfl dX3_lies_24 ?_
      refine lv_bipush (v := 6) hx hb dX3_lies_27 (by decide) ?_
      obtain ⟨v5, hv5, hf⟩ := ob1_e hf
      refine g_iald hx hb hK hW mA0 hv5 dX3_lies_29 ?_
      obtain ⟨v6, h6, hf⟩ := ob1_e hf
      refine g_vR (ov := some (.int v6)) (D := D) (Sc := mS) (adc := ad) (Ic := I) (Ac := A) (Rc := nR) (Gc := nG) (As := [.int a0, .int a1, .int v5]) (rest := []) (b := ad 99) (C := RX3) ⟨hx, hb, hml, hown, hts⟩ (m_against_met l D ad I A a0 a1 v5 v6 h6) (g_cwV 3 hts (lw_V q1312 q1314 qs35 q82 q1315) rfl rfl m_against_ds ⟨Nat.le_trans (Nat.le_of_ble_eq_true rfl) hRf, Nat.le_trans (Nat.le_of_ble_eq_true rfl) hRl⟩) (g_recv hK hW mO rfl) hK hW hcs rfl hl.1 rfl (Nat.le_of_ble_eq_true rfl) dX3_lies_30 ?_
      refine lv_istore_n (lv' := [(3, .int v6), (0, .ref (ad 99)), (1, .int a0), (2, .int a1)]) hx hb dX3_lies_33 rfl hl (by decide) rfl (fun ls hl => ?_)
      refine lv_iload_n hx hb dX3_lies_34 rfl (lv_at hl 0 rfl) ?_
      refine lv_if_le (tgt := 44) hx hb dX3_lies_35 (by decide) (fun c7 => ?_) (fun c7 => ?_)
      · rw [if_pos c7] at hf
        refine lv_iconst (v := 0) hx hb dX3_lies_44 (by decide) ?_
        refine lv_istore (lv' := [(4, .int 0), (3, .int v6), (0, .ref (ad 99)), (1, .int a0), (2, .int a1)]) hx hb dX3_lies_45 hl (by decide) rfl (fun ls hl => ?_)
        refine lv_iconst (v := 0) hx hb dX3_lies_47 (by decide) ?_
        refine lv_istore (lv' := [(5, .int 0), (4, .int 0), (3, .int v6), (0, .ref (ad 99)), (1, .int a0), (2, .int a1)]) hx hb dX3_lies_48 hl (by decide) rfl (fun ls hl => ?_)
        obtain ⟨v8, v9, hq9, hf⟩ := ob2_e hf
        refine m_lies_L50_w hx hb hml hown hts hK hRf hRl hcs I A a0 a1 hW v8 v9 (fun ls hl => ?_) NF 0 0 ls hq9 (lv_sub hl [3, 4, 5, 1, 0] rfl)
        refine lv_aload_n hx hb dX3_lies_104 rfl (lv_at hl 0 rfl) ?_
        refine lv_iload hx hb dX3_lies_105 (lv_at hl 1 rfl) ?_
        obtain ⟨v10, I11, A12, h12, hf⟩ := ob3_e hf
        refine g_vW (ov := some (.int v10)) (D := D) (Sc := mS) (adc := ad) (Ic := I) (Ac := A) (Rc := nR) (Gc := nG) (As := [.int v8]) (rest := []) (Ic1 := I11) (Ac1 := A12) (Rc1 := nR) (Gc1 := nG) (b := ad 99) (C := RX3) ⟨hx, hb, hml, hown, hts⟩ (m_well_met l D ad hI I A v8 v10 I11 A12 h12) (g_cwV 1 hts (lw_V q1304 q1306 qs34 q82 q1307) rfl rfl m_well_ds ⟨Nat.le_trans (Nat.le_of_ble_eq_true rfl) hRf, Nat.le_trans (Nat.le_of_ble_eq_true rfl) hRl⟩) (g_recv hK hW mO rfl) hK hW hS hA hcs rfl hl.1 rfl (Nat.le_of_ble_eq_true rfl) dX3_lies_107 (fun H locs hW _ hS => ?_)
        obtain ⟨rfl, rfl, rfl⟩ := so3 hf
        exact W.iret hx hb hr (fun t ht _ => ⟨rfl, by rw [ht]; exact hW, hS.F ht⟩) hS.2.2 dX3_lies_110
      · rw [if_neg c7] at hf
        refine lv_aload_n hx hb dX3_lies_38 rfl (lv_at hl 1 rfl) ?_
        refine lv_iload_n hx hb dX3_lies_39 rfl (lv_at hl 0 rfl) ?_
        obtain ⟨v13, I14, A15, h15, hf⟩ := ob3_e hf
        refine g_vW (ov := some (.int v13)) (D := D) (Sc := mS) (adc := ad) (Ic := I) (Ac := A) (Rc := nR) (Gc := nG) (As := [.int v6]) (rest := []) (Ic1 := I14) (Ac1 := A15) (Rc1 := nR) (Gc1 := nG) (b := ad 99) (C := RX3) ⟨hx, hb, hml, hown, hts⟩ (m_found_met l D ad hI I A v6 v13 I14 A15 h15) (g_cwV 1 hts (lw_V q1299 q1301 qs33 q82 q1302) rfl rfl m_found_ds ⟨Nat.le_trans (Nat.le_of_ble_eq_true rfl) hRf, Nat.le_trans (Nat.le_of_ble_eq_true rfl) hRl⟩) (g_recv hK hW mO rfl) hK hW hS hA hcs rfl hl.1 rfl (Nat.le_of_ble_eq_true rfl) dX3_lies_40 (fun H locs hW _ hS => ?_)
        obtain ⟨rfl, rfl, rfl⟩ := so3 hf
        exact W.iret hx hb hr (fun t ht _ => ⟨rfl, by rw [ht]; exact hW, hS.F ht⟩) hS.2.2 dX3_lies_43
    · rw [if_pos c4] at hf
      refine lv_ldc (v := (-1000001)) hx hb hown (hts _ q1298) dX3_lies_17 ?_
      obtain ⟨rfl, rfl, rfl⟩ := so3 hf
      exact W.iret hx hb hr (fun t ht _ => ⟨rfl, by rw [ht]; exact hW, hS.F ht⟩) hS.2.2 dX3_lies_19
  · rw [if_neg c2] at hf
    refine lv_ldc (v := (-1000002)) hx hb hown (hts _ q1391) dX3_lies_7 ?_
    obtain ⟨rfl, rfl, rfl⟩ := so3 hf
    exact W.iret hx hb hr (fun t ht _ => ⟨rfl, by rw [ht]; exact hW, hS.F ht⟩) hS.2.2 dX3_lies_9
theorem m_lies_ds : yX3_lies.cls = RX3 ∧ yX3_lies.cls ≠ "java/lang/invoke/MethodHandle" ∧ yX3_lies.cls ≠ "java/lang/invoke/VarHandle" ∧ (parseMethodDescriptor yX3_lies.desc).map (fun d => d.parameters.length) = some 2 := by decide +kernel
/-! lays -/
def m_lays_L2 : Nat → (Nat → Int32) → (Nat → Nat → Int32) → Int32 → Option ((Nat → Int32) × (Nat → Nat → Int32) × Int32)
  | 0, _, _, _ => none
  | n + 1, I, A, x1 =>
    if 10 ≤ x1 then (some (I, A, x1)) else (ob1 (ldO (A 0) 2044 (15 + x1)) fun (v2 : Int32) =>
      ob1 (stO (A 21) 10 x1 v2) fun (f3 : Nat → Int32) =>
      m_lays_L2 n I (va_up A 21 f3) (x1 + 1))
set_option maxRecDepth 100000 in
set_option maxHeartbeats 4000000 in
theorem m_lays_L2_w {p : Program} {l : Launch} {e : Env} {R0 : Room} {s : State} {m : MethodId} {args : Array Value} {below : List Frame} {meth : Method} {c : Code} {cells slots : Nat} {Q : State → Prop} {D : dd_} {ad : Nat → Nat} (hx : p.tables.exec = Jvm.exec) (hb : c.code = cX3_lays) (hml : c.maxLocals = 2) (hown : s.vm.findClass RX3 = some m.cls) (hts : ∀ w ∈ lw_all, w.before args s = true) (hK : Kx D s) (hRf : 1 ≤ R0.frames) (hRl : 16 ≤ R0.locals) (hcs : cells ≤ R0.cells ∧ slots ≤ R0.slots) (hI : Inj mS ad) (I9 : (Nat → Int32)) (A9 : (Nat → Nat → Int32)) (y1 : Int32) (KX : ∀ (H : Heap) (locs : List Loc) (ls : Array Slot), WH D mS ad I9 A9 nR nG H → va_S (frS mS ad) s.heap H locs → lv_has ls 2 [] → W p l e R0 s m args below meth c H locs cells slots Q (F0 m 29 ls [])) : ∀ (n : Nat) (I : (Nat → Int32)) (A : (Nat → Nat → Int32)) (x1 : Int32) (H : Heap) (locs : List Loc) (ls : Array Slot), m_lays_L2 n I A x1 = some (I9, A9, y1) → WH D mS ad I A nR nG H → va_S (frS mS ad) s.heap H locs → lv_has ls 2 [(0, .ref (ad 99)), (1, .int x1)] → W p l e R0 s m args below meth c H locs cells slots Q (F0 m 2 ls []) := by
  intro n
  have hA : ∀ i ∈ idxS mS, frS mS ad (ad i) := fun i hi => ⟨i, hi, rfl⟩
  induction n with
  | zero =>
    intro I A x1 H locs ls hf
    exact nomatch (show (none : Option ((Nat → Int32) × (Nat → Nat → Int32) × Int32)) = some (I9, A9, y1) from hf)
  | succ n ih =>
    intro I A x1 H locs ls hf hW hS hl
    have hf : (if 10 ≤ x1 then (some (I, A, x1)) else (ob1 (ldO (A 0) 2044 (15 + x1)) fun (v2 : Int32) =>
          ob1 (stO (A 21) 10 x1 v2) fun (f3 : Nat → Int32) =>
          m_lays_L2 n I (va_up A 21 f3) (x1 + 1))) = some (I9, A9, y1) := hf
    refine lv_iload_n hx hb dX3_lays_2 rfl (lv_at hl 1 rfl) ?_
    refine lv_bipush (v := 10) hx hb dX3_lays_3 (by decide) ?_
    refine lv_icmp_ge (tgt := 29) hx hb dX3_lays_5 (by decide) (fun c1 => ?_) (fun c1 => ?_)
    · rw [if_pos c1] at hf
      obtain ⟨rfl, rfl, rfl⟩ := so3 hf
      exact KX _ _ ls hW hS (lv_sub hl [] rfl)
    · rw [if_neg c1] at hf
      refine lv_aload_n hx hb dX3_lays_8 rfl (lv_at hl 0 rfl) ?_
      refine g_get (v := .ref (ad 21)) hx hb hts hown hK hW mO in_X3 rfl 21 (by decide) q1233 rfl rfl dX3_lays_9 ?_
      refine lv_iload_n hx hb dX3_lays_12 rfl (lv_at hl 1 rfl) ?_
      refine lv_aload_n hx hb dX3_lays_13 rfl (lv_at hl 0 rfl) ?_
      refine g_get (v := .ref (ad 0)) hx hb hts hown hK hW mO in_X3 rfl 0 (by decide) q1212 rfl rfl dX3_lays_14 ?_
      refine lv_bipush (v := 15) hx hb dX3_lays_17 (by decide) ?_
      refine lv_iload_n hx hb dX3_lays_19 rfl (lv_at hl 1 rfl) ?_
      refine lv_iadd hx hb dX3_lays_20 ?_
      obtain ⟨v2, hv2, hf⟩ := ob1_e hf
      refine g_iald hx hb hK hW mA0 hv2 dX3_lays_21 ?_
      obtain ⟨f3, hf3, hf⟩ := ob1_e hf
      refine g_iast hx hb hK mwf hI hA hW hS mA21 hf3 dX3_lays_22 (fun H locs hW hS => ?_)
      refine lv_iinc (v := x1 + 1) (lv' := [(1, .int (x1 + 1)), (0, .ref (ad 99))]) hx hb dX3_lays_23 hl (k := 1) rfl (by rfl) (by decide) rfl (fun ls hl => ?_)
      refine lv_goto (tgt := 2) hx hb dX3_lays_26 (by decide) ?_
      exact ih I (va_up A 21 f3) (x1 + 1) _ _ ls hf hW hS (lv_sub hl [1, 0] rfl)
def m_lays (I : Nat → Int32) (A : Nat → Nat → Int32) : Option ((Nat → Int32) × (Nat → Nat → Int32)) :=
  ob3 (m_lays_L2 NF I A 0) fun (I1 : Nat → Int32) (A2 : Nat → Nat → Int32) (v3 : Int32) =>
  some (I1, A2)
set_option maxRecDepth 100000 in
set_option maxHeartbeats 4000000 in
theorem m_lays_met (l : Launch) (D : dd_) (ad : Nat → Nat) (hI : Inj mS ad) (I : Nat → Int32) (A : Nat → Nat → Int32) (I1 : (Nat → Int32)) (A1 : (Nat → Nat → Int32)) (hf : m_lays I A  = some (I1, A1)) : Met l yX3_lays (ws_ yX3_lays cX3_lays 2 none) ({ frames := 1, cells := 0, slots := 0, locals := 16 }) (PcW D mS ad I A nR nG [.ref (ad 99)]) (QcW D mS ad I1 A1 nR nG (none)) 0 0 (frS mS ad) := by
  refine Met.ofW (cc := cX3_lays) (maxL := 2) (ret := none) (by decide) rfl ?_
  intro p e s m args below meth c s₁ B hml hv
  obtain ⟨rfl, hK, hW⟩ := hv
  have hx := B.exec
  have hb := B.bytes
  have hr := B.returns
  have hts := atoms_spec (ws := (ws_ yX3_lays cX3_lays 2 none)) B.pre
  have hts : ∀ w ∈ lw_all, w.before _ s = true := fun w h => hts w (List.mem_cons_of_mem _ h)
  have hown : s.vm.findClass RX3 = some m.cls := findClass_of_methodNamed B.named
  have hlocks := B.notSynchronized
  have hRf : 1 ≤ (headSpec (ws_ yX3_lays cX3_lays 2 none) ({ frames := 1, cells := 0, slots := 0, locals := 16 })).room.frames := Nat.le_refl _
  have hRl : 16 ≤ (headSpec (ws_ yX3_lays cX3_lays 2 none) ({ frames := 1, cells := 0, slots := 0, locals := 16 })).room.locals := Nat.le_refl _
  have hcs : 0 ≤ (headSpec (ws_ yX3_lays cX3_lays 2 none) ({ frames := 1, cells := 0, slots := 0, locals := 16 })).room.cells ∧ 0 ≤ (headSpec (ws_ yX3_lays cX3_lays 2 none) ({ frames := 1, cells := 0, slots := 0, locals := 16 })).room.slots := ⟨Nat.zero_le _, Nat.zero_le _⟩
  have hA : ∀ i ∈ idxS mS, frS mS ad (ad i) := fun i hi => ⟨i, hi, rfl⟩
  have hS : va_S (frS mS ad) s.heap s.heap [] := va_S.rf
  have hl := lv_entry ([.ref (ad 99)]) (n := 2) (Nat.le_of_ble_eq_true rfl)
  rw [lg_entry_eq]
  generalize (lg_sl ([.ref (ad 99)]) ++ List.replicate (2 - (lg_sl ([.ref (ad 99)])).length) Slot.unset).toArray = ls at hl ⊢
  have hl : lv_has ls 2 [(0, .ref (ad 99))] := hl
  have hf : (ob3 (m_lays_L2 NF I A 0) fun (I1 : Nat → Int32) (A2 : Nat → Nat → Int32) (v3 : Int32) =>
    some (I1, A2)) = some (I1, A1) := hf
  refine lv_iconst (v := 0) hx hb dX3_lays_0 (by decide) ?_
  refine lv_istore_n (lv' := [(1, .int 0), (0, .ref (ad 99))]) hx hb dX3_lays_1 rfl hl (by decide) rfl (fun ls hl => ?_)
  obtain ⟨I1, A2, v3, hq3, hf⟩ := ob3_e hf
  refine m_lays_L2_w hx hb hml hown hts hK hRf hRl hcs hI I1 A2 v3 (fun H locs ls hW hS hl => ?_) NF I A 0 _ _ ls hq3 hW hS (lv_sub hl [1, 0] rfl)
  obtain ⟨rfl, rfl⟩ := so2 hf
  exact W.vret hx hb hr (fun t ht _ => ⟨rfl, by rw [ht]; exact hW, hS.F ht⟩) hS.2.2 dX3_lays_29
theorem m_lays_ds : yX3_lays.cls = RX3 ∧ yX3_lays.cls ≠ "java/lang/invoke/MethodHandle" ∧ yX3_lays.cls ≠ "java/lang/invoke/VarHandle" ∧ (parseMethodDescriptor yX3_lays.desc).map (fun d => d.parameters.length) = some 0 := by decide +kernel
/-! crushedNow -/
def m_crushedNow_L4 (I : Nat → Int32) (A : Nat → Nat → Int32) : Nat → Int32 → Int32 → Option (Int32 × Int32)
  | 0, _, _ => none
  | n + 1, x1, x2 =>
    ob1 (ldO (A 0) 2044 6) fun (v1 : Int32) =>
    if v1 ≤ x2 then (some (x1, x2)) else (ob1 (m_isCrushed I A x2) fun (v3 : Int32) =>
      ob1 (if v3 = 0 then ((some 0 : Option (Int32))) else ((some ((1 : Int32) <<< (x2 &&& 31)) : Option (Int32)))) fun (v4 : Int32) =>
      m_crushedNow_L4 I A n (x1 ||| v4) (x2 + 1))
set_option maxRecDepth 100000 in
set_option maxHeartbeats 4000000 in
theorem m_crushedNow_L4_w {p : Program} {l : Launch} {e : Env} {R0 : Room} {s : State} {m : MethodId} {args : Array Value} {below : List Frame} {meth : Method} {c : Code} {cells slots : Nat} {Q : State → Prop} {D : dd_} {ad : Nat → Nat} (hx : p.tables.exec = Jvm.exec) (hb : c.code = cX3_crushedNow) (hml : c.maxLocals = 3) (hown : s.vm.findClass RX3 = some m.cls) (hts : ∀ w ∈ lw_all, w.before args s = true) (hK : Kx D s) (hRf : 5 ≤ R0.frames) (hRl : 103 ≤ R0.locals) (hcs : cells ≤ R0.cells ∧ slots ≤ R0.slots) {H : Heap} {locs : List Loc} (I : Nat → Int32) (A : Nat → Nat → Int32) (hW : WH D mS ad I A nR nG H) (y1 : Int32) (y2 : Int32) (KX : ∀ (ls : Array Slot), lv_has ls 3 [(1, .int y1)] → W p l e R0 s m args below meth c H locs cells slots Q (F0 m 39 ls [])) : ∀ (n : Nat) (x1 : Int32) (x2 : Int32) (ls : Array Slot), m_crushedNow_L4 I A n x1 x2 = some (y1, y2) → lv_has ls 3 [(0, .ref (ad 99)), (1, .int x1), (2, .int x2)] → W p l e R0 s m args below meth c H locs cells slots Q (F0 m 4 ls []) := by
  intro n
  induction n with
  | zero =>
    intro x1 x2 ls hf
    exact nomatch (show (none : Option (Int32 × Int32)) = some (y1, y2) from hf)
  | succ n ih =>
    intro x1 x2 ls hf hl
    have hf : (ob1 (ldO (A 0) 2044 6) fun (v1 : Int32) =>
        if v1 ≤ x2 then (some (x1, x2)) else (ob1 (m_isCrushed I A x2) fun (v3 : Int32) =>
          ob1 (if v3 = 0 then ((some 0 : Option (Int32))) else ((some ((1 : Int32) <<< (x2 &&& 31)) : Option (Int32)))) fun (v4 : Int32) =>
          m_crushedNow_L4 I A n (x1 ||| v4) (x2 + 1))) = some (y1, y2) := hf
    refine lv_iload_n hx hb dX3_crushedNow_4 rfl (lv_at hl 2 rfl) ?_
    refine lv_aload_n hx hb dX3_crushedNow_5 rfl (lv_at hl 0 rfl) ?_
    refine g_get (v := .ref (ad 0)) hx hb hts hown hK hW mO in_X3 rfl 0 (by decide) q1212 rfl rfl dX3_crushedNow_6 ?_
    refine lv_bipush (v := 6) hx hb dX3_crushedNow_9 (by decide) ?_
    obtain ⟨v1, hv1, hf⟩ := ob1_e hf
    refine g_iald hx hb hK hW mA0 hv1 dX3_crushedNow_11 ?_
    refine lv_icmp_ge (tgt := 39) hx hb dX3_crushedNow_12 (by decide) (fun c2 => ?_) (fun c2 => ?_)
    · rw [if_pos c2] at hf
      obtain ⟨rfl, rfl⟩ := so2 hf
      exact KX ls (lv_sub hl [1] rfl)
    · rw [if_neg c2] at hf
      refine lv_iload_n hx hb dX3_crushedNow_15 rfl (lv_at hl 1 rfl) ?_
      refine lv_aload_n hx hb dX3_crushedNow_16 rfl (lv_at hl 0 rfl) ?_
      refine lv_iload_n hx hb dX3_crushedNow_17 rfl (lv_at hl 2 rfl) ?_
      obtain ⟨v3, h3, hf⟩ := ob1_e hf
      refine g_vR (ov := some (.int v3)) (D := D) (Sc := mS) (adc := ad) (Ic := I) (Ac := A) (Rc := nR) (Gc := nG) (As := [.int x2]) (rest := [.int x1]) (b := ad 99) (C := RX3) ⟨hx, hb, hml, hown, hts⟩ (m_isCrushed_met l D ad I A x2 v3 h3) (g_cwV 1 hts (lw_V q1460 q1462 qs55 q82 q1463) rfl rfl m_isCrushed_ds ⟨Nat.le_trans (Nat.le_of_ble_eq_true rfl) hRf, Nat.le_trans (Nat.le_of_ble_eq_true rfl) hRl⟩) (g_recv hK hW mO rfl) hK hW hcs rfl hl.1 rfl (Nat.le_of_ble_eq_true rfl) dX3_crushedNow_18 ?_
      obtain ⟨v4, hm4, hf⟩ := ob1_e hf
      refine w_cutL (nL := 3) (L := [(0, .ref (ad 99)), (2, .int x2)]) (pcj := 31) (st := [.int v4, .int x1]) (fun ls hl => ?_) (fun K4 => ?_)
      · refine lv_ior hx hb dX3_crushedNow_31 ?_
        refine lv_istore_n (lv' := [(1, .int (x1 ||| v4)), (0, .ref (ad 99)), (2, .int x2)]) hx hb dX3_crushedNow_32 rfl hl (by decide) rfl (fun ls hl => ?_)
        refine lv_iinc (v := x2 + 1) (lv' := [(2, .int (x2 + 1)), (1, .int (x1 ||| v4)), (0, .ref (ad 99))]) hx hb dX3_crushedNow_33 hl (k := 2) rfl (by rfl) (by decide) rfl (fun ls hl => ?_)
        refine lv_goto (tgt := 4) hx hb dX3_crushedNow_36 (by decide) ?_
        exact ih (x1 ||| v4) (x2 + 1) ls hf (lv_sub hl [2, 1, 0] rfl)
      · refine lv_if_eq (tgt := 30) hx hb dX3_crushedNow_21 (by decide) (fun c5 => ?_) (fun c5 => ?_)
        · rw [if_pos c5] at hm4
          refine lv_iconst (v := 0) hx hb dX3_crushedNow_30 (by decide) ?_
          obtain rfl := so1 hm4
          exact K4 ls (lv_sub hl [0, 2] rfl)
        · rw [if_neg c5] at hm4
          refine lv_iconst (v := 1) hx hb dX3_crushedNow_24 (by decide) ?_
          refine lv_iload_n hx hb dX3_crushedNow_25 rfl (lv_at hl 2 rfl) ?_
          refine lv_ishl hx hb dX3_crushedNow_26 ?_
          refine lv_goto (tgt := 31) hx hb dX3_crushedNow_27 (by decide) ?_
          obtain rfl := so1 hm4
          exact K4 ls (lv_sub hl [0, 2] rfl)
def m_crushedNow (I : Nat → Int32) (A : Nat → Nat → Int32) : Option (Int32) :=
  ob2 (m_crushedNow_L4 I A NF 0 0) fun (v1 : Int32) (v2 : Int32) =>
  some v1
set_option maxRecDepth 100000 in
set_option maxHeartbeats 4000000 in
theorem m_crushedNow_met (l : Launch) (D : dd_) (ad : Nat → Nat) (I : Nat → Int32) (A : Nat → Nat → Int32) (r : Int32) (hf : m_crushedNow I A  = some r) : Met l yX3_crushedNow (ws_ yX3_crushedNow cX3_crushedNow 3 (some .int)) ({ frames := 5, cells := 0, slots := 0, locals := 103 }) (PcW D mS ad I A nR nG [.ref (ad 99)]) (QcR (some (.int r))) 0 0 (fun _ => False) := by
  refine Met.ofW (cc := cX3_crushedNow) (maxL := 3) (ret := (some .int)) (by decide) rfl ?_
  intro p e s m args below meth c s₁ B hml hv
  obtain ⟨rfl, hK, hW⟩ := hv
  have hx := B.exec
  have hb := B.bytes
  have hr := B.returns
  have hts := atoms_spec (ws := (ws_ yX3_crushedNow cX3_crushedNow 3 (some .int))) B.pre
  have hts : ∀ w ∈ lw_all, w.before _ s = true := fun w h => hts w (List.mem_cons_of_mem _ h)
  have hown : s.vm.findClass RX3 = some m.cls := findClass_of_methodNamed B.named
  have hlocks := B.notSynchronized
  have hRf : 5 ≤ (headSpec (ws_ yX3_crushedNow cX3_crushedNow 3 (some .int)) ({ frames := 5, cells := 0, slots := 0, locals := 103 })).room.frames := Nat.le_refl _
  have hRl : 103 ≤ (headSpec (ws_ yX3_crushedNow cX3_crushedNow 3 (some .int)) ({ frames := 5, cells := 0, slots := 0, locals := 103 })).room.locals := Nat.le_refl _
  have hcs : 0 ≤ (headSpec (ws_ yX3_crushedNow cX3_crushedNow 3 (some .int)) ({ frames := 5, cells := 0, slots := 0, locals := 103 })).room.cells ∧ 0 ≤ (headSpec (ws_ yX3_crushedNow cX3_crushedNow 3 (some .int)) ({ frames := 5, cells := 0, slots := 0, locals := 103 })).room.slots := ⟨Nat.zero_le _, Nat.zero_le _⟩
  have hl := lv_entry ([.ref (ad 99)]) (n := 3) (Nat.le_of_ble_eq_true rfl)
  rw [lg_entry_eq]
  generalize (lg_sl ([.ref (ad 99)]) ++ List.replicate (3 - (lg_sl ([.ref (ad 99)])).length) Slot.unset).toArray = ls at hl ⊢
  have hl : lv_has ls 3 [(0, .ref (ad 99))] := hl
  have hf : (ob2 (m_crushedNow_L4 I A NF 0 0) fun (v1 : Int32) (v2 : Int32) =>
    some v1) = some r := hf
  refine lv_iconst (v := 0) hx hb dX3_crushedNow_0 (by decide) ?_
  refine lv_istore_n (lv' := [(1, .int 0), (0, .ref (ad 99))]) hx hb dX3_crushedNow_1 rfl hl (by decide) rfl (fun ls hl => ?_)
  refine lv_iconst (v := 0) hx hb dX3_crushedNow_2 (by decide) ?_
  refine lv_istore_n (lv' := [(2, .int 0), (1, .int 0), (0, .ref (ad 99))]) hx hb dX3_crushedNow_3 rfl hl (by decide) rfl (fun ls hl => ?_)
  obtain ⟨v1, v2, hq2, hf⟩ := ob2_e hf
  refine m_crushedNow_L4_w hx hb hml hown hts hK hRf hRl hcs I A hW v1 v2 (fun ls hl => ?_) NF 0 0 ls hq2 (lv_sub hl [2, 1, 0] rfl)
  refine lv_iload_n hx hb dX3_crushedNow_39 rfl (lv_at hl 0 rfl) ?_
  obtain rfl := so1 hf
  exact W.iret hx hb hr (fun t ht _ => ⟨rfl, ht⟩) (fun q hq => by cases hq) dX3_crushedNow_40
theorem m_crushedNow_ds : yX3_crushedNow.cls = RX3 ∧ yX3_crushedNow.cls ≠ "java/lang/invoke/MethodHandle" ∧ yX3_crushedNow.cls ≠ "java/lang/invoke/VarHandle" ∧ (parseMethodDescriptor yX3_crushedNow.desc).map (fun d => d.parameters.length) = some 0 := by decide +kernel
/-! putsBack -/
def m_putsBack_L2 : Nat → (Nat → Int32) → (Nat → Nat → Int32) → Int32 → Option ((Nat → Int32) × (Nat → Nat → Int32) × Int32)
  | 0, _, _, _ => none
  | n + 1, I, A, x1 =>
    if 10 ≤ x1 then (some (I, A, x1)) else (ob1 (ldO (A 21) 10 x1) fun (v2 : Int32) =>
      ob1 (stO (A 0) 2044 (15 + x1) v2) fun (f3 : Nat → Int32) =>
      m_putsBack_L2 n I (va_up A 0 f3) (x1 + 1))
set_option maxRecDepth 100000 in
set_option maxHeartbeats 4000000 in
theorem m_putsBack_L2_w {p : Program} {l : Launch} {e : Env} {R0 : Room} {s : State} {m : MethodId} {args : Array Value} {below : List Frame} {meth : Method} {c : Code} {cells slots : Nat} {Q : State → Prop} {D : dd_} {ad : Nat → Nat} (hx : p.tables.exec = Jvm.exec) (hb : c.code = cX3_putsBack) (hml : c.maxLocals = 2) (hown : s.vm.findClass RX3 = some m.cls) (hts : ∀ w ∈ lw_all, w.before args s = true) (hK : Kx D s) (hRf : 1 ≤ R0.frames) (hRl : 16 ≤ R0.locals) (hcs : cells ≤ R0.cells ∧ slots ≤ R0.slots) (hI : Inj mS ad) (I9 : (Nat → Int32)) (A9 : (Nat → Nat → Int32)) (y1 : Int32) (KX : ∀ (H : Heap) (locs : List Loc) (ls : Array Slot), WH D mS ad I9 A9 nR nG H → va_S (frS mS ad) s.heap H locs → lv_has ls 2 [] → W p l e R0 s m args below meth c H locs cells slots Q (F0 m 29 ls [])) : ∀ (n : Nat) (I : (Nat → Int32)) (A : (Nat → Nat → Int32)) (x1 : Int32) (H : Heap) (locs : List Loc) (ls : Array Slot), m_putsBack_L2 n I A x1 = some (I9, A9, y1) → WH D mS ad I A nR nG H → va_S (frS mS ad) s.heap H locs → lv_has ls 2 [(0, .ref (ad 99)), (1, .int x1)] → W p l e R0 s m args below meth c H locs cells slots Q (F0 m 2 ls []) := by
  intro n
  have hA : ∀ i ∈ idxS mS, frS mS ad (ad i) := fun i hi => ⟨i, hi, rfl⟩
  induction n with
  | zero =>
    intro I A x1 H locs ls hf
    exact nomatch (show (none : Option ((Nat → Int32) × (Nat → Nat → Int32) × Int32)) = some (I9, A9, y1) from hf)
  | succ n ih =>
    intro I A x1 H locs ls hf hW hS hl
    have hf : (if 10 ≤ x1 then (some (I, A, x1)) else (ob1 (ldO (A 21) 10 x1) fun (v2 : Int32) =>
          ob1 (stO (A 0) 2044 (15 + x1) v2) fun (f3 : Nat → Int32) =>
          m_putsBack_L2 n I (va_up A 0 f3) (x1 + 1))) = some (I9, A9, y1) := hf
    refine lv_iload_n hx hb dX3_putsBack_2 rfl (lv_at hl 1 rfl) ?_
    refine lv_bipush (v := 10) hx hb dX3_putsBack_3 (by decide) ?_
    refine lv_icmp_ge (tgt := 29) hx hb dX3_putsBack_5 (by decide) (fun c1 => ?_) (fun c1 => ?_)
    · rw [if_pos c1] at hf
      obtain ⟨rfl, rfl, rfl⟩ := so3 hf
      exact KX _ _ ls hW hS (lv_sub hl [] rfl)
    · rw [if_neg c1] at hf
      refine lv_aload_n hx hb dX3_putsBack_8 rfl (lv_at hl 0 rfl) ?_
      refine g_get (v := .ref (ad 0)) hx hb hts hown hK hW mO in_X3 rfl 0 (by decide) q1212 rfl rfl dX3_putsBack_9 ?_
      refine lv_bipush (v := 15) hx hb dX3_putsBack_12 (by decide) ?_
      refine lv_iload_n hx hb dX3_putsBack_14 rfl (lv_at hl 1 rfl) ?_
      refine lv_iadd hx hb dX3_putsBack_15 ?_
      refine lv_aload_n hx hb dX3_putsBack_16 rfl (lv_at hl 0 rfl) ?_
      refine g_get (v := .ref (ad 21)) hx hb hts hown hK hW mO in_X3 rfl 21 (by decide) q1233 rfl rfl dX3_putsBack_17 ?_
      refine lv_iload_n hx hb dX3_putsBack_20 rfl (lv_at hl 1 rfl) ?_
      obtain ⟨v2, hv2, hf⟩ := ob1_e hf
      refine g_iald hx hb hK hW mA21 hv2 dX3_putsBack_21 ?_
      obtain ⟨f3, hf3, hf⟩ := ob1_e hf
      refine g_iast hx hb hK mwf hI hA hW hS mA0 hf3 dX3_putsBack_22 (fun H locs hW hS => ?_)
      refine lv_iinc (v := x1 + 1) (lv' := [(1, .int (x1 + 1)), (0, .ref (ad 99))]) hx hb dX3_putsBack_23 hl (k := 1) rfl (by rfl) (by decide) rfl (fun ls hl => ?_)
      refine lv_goto (tgt := 2) hx hb dX3_putsBack_26 (by decide) ?_
      exact ih I (va_up A 0 f3) (x1 + 1) _ _ ls hf hW hS (lv_sub hl [1, 0] rfl)
def m_putsBack (I : Nat → Int32) (A : Nat → Nat → Int32) : Option ((Nat → Int32) × (Nat → Nat → Int32)) :=
  ob3 (m_putsBack_L2 NF I A 0) fun (I1 : Nat → Int32) (A2 : Nat → Nat → Int32) (v3 : Int32) =>
  some (I1, A2)
set_option maxRecDepth 100000 in
set_option maxHeartbeats 4000000 in
theorem m_putsBack_met (l : Launch) (D : dd_) (ad : Nat → Nat) (hI : Inj mS ad) (I : Nat → Int32) (A : Nat → Nat → Int32) (I1 : (Nat → Int32)) (A1 : (Nat → Nat → Int32)) (hf : m_putsBack I A  = some (I1, A1)) : Met l yX3_putsBack (ws_ yX3_putsBack cX3_putsBack 2 none) ({ frames := 1, cells := 0, slots := 0, locals := 16 }) (PcW D mS ad I A nR nG [.ref (ad 99)]) (QcW D mS ad I1 A1 nR nG (none)) 0 0 (frS mS ad) := by
  refine Met.ofW (cc := cX3_putsBack) (maxL := 2) (ret := none) (by decide) rfl ?_
  intro p e s m args below meth c s₁ B hml hv
  obtain ⟨rfl, hK, hW⟩ := hv
  have hx := B.exec
  have hb := B.bytes
  have hr := B.returns
  have hts := atoms_spec (ws := (ws_ yX3_putsBack cX3_putsBack 2 none)) B.pre
  have hts : ∀ w ∈ lw_all, w.before _ s = true := fun w h => hts w (List.mem_cons_of_mem _ h)
  have hown : s.vm.findClass RX3 = some m.cls := findClass_of_methodNamed B.named
  have hlocks := B.notSynchronized
  have hRf : 1 ≤ (headSpec (ws_ yX3_putsBack cX3_putsBack 2 none) ({ frames := 1, cells := 0, slots := 0, locals := 16 })).room.frames := Nat.le_refl _
  have hRl : 16 ≤ (headSpec (ws_ yX3_putsBack cX3_putsBack 2 none) ({ frames := 1, cells := 0, slots := 0, locals := 16 })).room.locals := Nat.le_refl _
  have hcs : 0 ≤ (headSpec (ws_ yX3_putsBack cX3_putsBack 2 none) ({ frames := 1, cells := 0, slots := 0, locals := 16 })).room.cells ∧ 0 ≤ (headSpec (ws_ yX3_putsBack cX3_putsBack 2 none) ({ frames := 1, cells := 0, slots := 0, locals := 16 })).room.slots := ⟨Nat.zero_le _, Nat.zero_le _⟩
  have hA : ∀ i ∈ idxS mS, frS mS ad (ad i) := fun i hi => ⟨i, hi, rfl⟩
  have hS : va_S (frS mS ad) s.heap s.heap [] := va_S.rf
  have hl := lv_entry ([.ref (ad 99)]) (n := 2) (Nat.le_of_ble_eq_true rfl)
  rw [lg_entry_eq]
  generalize (lg_sl ([.ref (ad 99)]) ++ List.replicate (2 - (lg_sl ([.ref (ad 99)])).length) Slot.unset).toArray = ls at hl ⊢
  have hl : lv_has ls 2 [(0, .ref (ad 99))] := hl
  have hf : (ob3 (m_putsBack_L2 NF I A 0) fun (I1 : Nat → Int32) (A2 : Nat → Nat → Int32) (v3 : Int32) =>
    some (I1, A2)) = some (I1, A1) := hf
  refine lv_iconst (v := 0) hx hb dX3_putsBack_0 (by decide) ?_
  refine lv_istore_n (lv' := [(1, .int 0), (0, .ref (ad 99))]) hx hb dX3_putsBack_1 rfl hl (by decide) rfl (fun ls hl => ?_)
  obtain ⟨I1, A2, v3, hq3, hf⟩ := ob3_e hf
  refine m_putsBack_L2_w hx hb hml hown hts hK hRf hRl hcs hI I1 A2 v3 (fun H locs ls hW hS hl => ?_) NF I A 0 _ _ ls hq3 hW hS (lv_sub hl [1, 0] rfl)
  obtain ⟨rfl, rfl⟩ := so2 hf
  exact W.vret hx hb hr (fun t ht _ => ⟨rfl, by rw [ht]; exact hW, hS.F ht⟩) hS.2.2 dX3_putsBack_29
theorem m_putsBack_ds : yX3_putsBack.cls = RX3 ∧ yX3_putsBack.cls ≠ "java/lang/invoke/MethodHandle" ∧ yX3_putsBack.cls ≠ "java/lang/invoke/VarHandle" ∧ (parseMethodDescriptor yX3_putsBack.desc).map (fun d => d.parameters.length) = some 0 := by decide +kernel
/-! crushed -/
def m_crushed_L34 (u1 : Int32) : Nat → (Nat → Int32) → (Nat → Nat → Int32) → Int32 → Int32 → Option ((Nat → Int32) × (Nat → Nat → Int32) × Int32 × Int32)
  | 0, _, _, _, _ => none
  | n + 1, I, A, x2, x3 =>
    if u1 ≤ x3 then (some (I, A, x2, x3)) else (if x2 = (-1000000) then (ob2 (m_grows I A ) fun (I3 : Nat → Int32) (A4 : Nat → Nat → Int32) =>
        ob1 (m_crushedNow I3 A4 ) fun (v5 : Int32) =>
        ob1 (if v5 = 0 then ((some x3 : Option (Int32))) else ((some x2 : Option (Int32)))) fun (v6 : Int32) =>
        m_crushed_L34 u1 n I3 A4 v6 (x3 + 1)) else (some (I, A, x2, x3)))
set_option maxRecDepth 100000 in
set_option maxHeartbeats 4000000 in
theorem m_crushed_L34_w {p : Program} {l : Launch} {e : Env} {R0 : Room} {s : State} {m : MethodId} {args : Array Value} {below : List Frame} {meth : Method} {c : Code} {cells slots : Nat} {Q : State → Prop} {D : dd_} {ad : Nat → Nat} (hx : p.tables.exec = Jvm.exec) (hb : c.code = cX3_crushed) (hml : c.maxLocals = 4) (hown : s.vm.findClass RX3 = some m.cls) (hts : ∀ w ∈ lw_all, w.before args s = true) (hK : Kx D s) (hRf : 6 ≤ R0.frames) (hRl : 125 ≤ R0.locals) (hcs : cells ≤ R0.cells ∧ slots ≤ R0.slots) (hI : Inj mS ad) (u1 : Int32) (I9 : (Nat → Int32)) (A9 : (Nat → Nat → Int32)) (y2 : Int32) (y3 : Int32) (KX : ∀ (H : Heap) (locs : List Loc) (ls : Array Slot), WH D mS ad I9 A9 nR nG H → va_S (frS mS ad) s.heap H locs → lv_has ls 4 [(0, .ref (ad 99)), (2, .int y2)] → W p l e R0 s m args below meth c H locs cells slots Q (F0 m 68 ls [])) : ∀ (n : Nat) (I : (Nat → Int32)) (A : (Nat → Nat → Int32)) (x2 : Int32) (x3 : Int32) (H : Heap) (locs : List Loc) (ls : Array Slot), m_crushed_L34 u1 n I A x2 x3 = some (I9, A9, y2, y3) → WH D mS ad I A nR nG H → va_S (frS mS ad) s.heap H locs → lv_has ls 4 [(0, .ref (ad 99)), (1, .int u1), (2, .int x2), (3, .int x3)] → W p l e R0 s m args below meth c H locs cells slots Q (F0 m 34 ls []) := by
  intro n
  have hA : ∀ i ∈ idxS mS, frS mS ad (ad i) := fun i hi => ⟨i, hi, rfl⟩
  induction n with
  | zero =>
    intro I A x2 x3 H locs ls hf
    exact nomatch (show (none : Option ((Nat → Int32) × (Nat → Nat → Int32) × Int32 × Int32)) = some (I9, A9, y2, y3) from hf)
  | succ n ih =>
    intro I A x2 x3 H locs ls hf hW hS hl
    have hf : (if u1 ≤ x3 then (some (I, A, x2, x3)) else (if x2 = (-1000000) then (ob2 (m_grows I A ) fun (I3 : Nat → Int32) (A4 : Nat → Nat → Int32) =>
            ob1 (m_crushedNow I3 A4 ) fun (v5 : Int32) =>
            ob1 (if v5 = 0 then ((some x3 : Option (Int32))) else ((some x2 : Option (Int32)))) fun (v6 : Int32) =>
            m_crushed_L34 u1 n I3 A4 v6 (x3 + 1)) else (some (I, A, x2, x3)))) = some (I9, A9, y2, y3) := hf
    refine lv_iload_n hx hb dX3_crushed_34 rfl (lv_at hl 3 rfl) ?_
    refine lv_iload_n hx hb dX3_crushed_35 rfl (lv_at hl 1 rfl) ?_
    refine lv_icmp_ge (tgt := 68) hx hb dX3_crushed_36 (by decide) (fun c1 => ?_) (fun c1 => ?_)
    · rw [if_pos c1] at hf
      obtain ⟨rfl, rfl, rfl, rfl⟩ := so4 hf
      exact KX _ _ ls hW hS (lv_sub hl [0, 2] rfl)
    · rw [if_neg c1] at hf
      refine lv_iload_n hx hb dX3_crushed_39 rfl (lv_at hl 2 rfl) ?_
      refine lv_ldc (v := (-1000000)) hx hb hown (hts _ q1492) dX3_crushed_40 ?_
      refine lv_icmp_ne (tgt := 68) hx hb dX3_crushed_42 (by decide) (fun c2 => ?_) (fun c2 => ?_)
      · rw [if_neg c2] at hf
        obtain ⟨rfl, rfl, rfl, rfl⟩ := so4 hf
        exact KX _ _ ls hW hS (lv_sub hl [0, 2] rfl)
      · rw [if_pos c2] at hf
        refine lv_aload_n hx hb dX3_crushed_45 rfl (lv_at hl 0 rfl) ?_
        obtain ⟨I3, A4, h4, hf⟩ := ob2_e hf
        refine g_vW (ov := none) (D := D) (Sc := mS) (adc := ad) (Ic := I) (Ac := A) (Rc := nR) (Gc := nG) (As := []) (rest := []) (Ic1 := I3) (Ac1 := A4) (Rc1 := nR) (Gc1 := nG) (b := ad 99) (C := RX3) ⟨hx, hb, hml, hown, hts⟩ (m_grows_met l D ad hI I A  I3 A4 h4) (g_cwV 0 hts (lw_V q1451 q1453 qs54 q82 q1454) rfl rfl m_grows_ds ⟨Nat.le_trans (Nat.le_of_ble_eq_true rfl) hRf, Nat.le_trans (Nat.le_of_ble_eq_true rfl) hRl⟩) (g_recv hK hW mO rfl) hK hW hS hA hcs rfl hl.1 rfl (Nat.le_of_ble_eq_true rfl) dX3_crushed_46 (fun H locs hW _ hS => ?_)
        refine lv_aload_n hx hb dX3_crushed_49 rfl (lv_at hl 0 rfl) ?_
        obtain ⟨v5, h5, hf⟩ := ob1_e hf
        refine g_vR (ov := some (.int v5)) (D := D) (Sc := mS) (adc := ad) (Ic := I3) (Ac := A4) (Rc := nR) (Gc := nG) (As := []) (rest := []) (b := ad 99) (C := RX3) ⟨hx, hb, hml, hown, hts⟩ (m_crushedNow_met l D ad I3 A4  v5 h5) (g_cwV 0 hts (lw_V q1549 q1551 qs62 q82 q1552) rfl rfl m_crushedNow_ds ⟨Nat.le_trans (Nat.le_of_ble_eq_true rfl) hRf, Nat.le_trans (Nat.le_of_ble_eq_true rfl) hRl⟩) (g_recv hK hW mO rfl) hK hW hcs rfl hl.1 rfl (Nat.le_of_ble_eq_true rfl) dX3_crushed_50 ?_
        obtain ⟨v6, hm6, hf⟩ := ob1_e hf
        refine w_cutL (nL := 4) (L := [(0, .ref (ad 99)), (1, .int u1), (3, .int x3)]) (pcj := 61) (st := [.int v6]) (fun ls hl => ?_) (fun K6 => ?_)
        · refine lv_istore_n (lv' := [(2, .int v6), (0, .ref (ad 99)), (1, .int u1), (3, .int x3)]) hx hb dX3_crushed_61 rfl hl (by decide) rfl (fun ls hl => ?_)
          refine lv_iinc (v := x3 + 1) (lv' := [(3, .int (x3 + 1)), (2, .int v6), (0, .ref (ad 99)), (1, .int u1)]) hx hb dX3_crushed_62 hl (k := 3) rfl (by rfl) (by decide) rfl (fun ls hl => ?_)
          refine lv_goto (tgt := 34) hx hb dX3_crushed_65 (by decide) ?_
          exact ih I3 A4 v6 (x3 + 1) _ _ ls hf hW hS (lv_sub hl [2, 3, 1, 0] rfl)
        · refine lv_if_ne (tgt := 60) hx hb dX3_crushed_53 (by decide) (fun c7 => ?_) (fun c7 => ?_)
          · rw [if_neg c7] at hm6
            refine lv_iload_n hx hb dX3_crushed_60 rfl (lv_at hl 2 rfl) ?_
            obtain rfl := so1 hm6
            exact K6 ls (lv_sub hl [0, 1, 3] rfl)
          · rw [if_pos c7] at hm6
            refine lv_iload_n hx hb dX3_crushed_56 rfl (lv_at hl 3 rfl) ?_
            refine lv_goto (tgt := 61) hx hb dX3_crushed_57 (by decide) ?_
            obtain rfl := so1 hm6
            exact K6 ls (lv_sub hl [0, 1, 3] rfl)
def m_crushed (I : Nat → Int32) (A : Nat → Nat → Int32) (a0 : Int32) : Option (Int32 × (Nat → Int32) × (Nat → Nat → Int32)) :=
  ob1 (m_isNone I A ) fun (v1 : Int32) =>
  if v1 = 0 then (ob1 (m_in a0.toInt64 1 60) fun (v3 : Int32) =>
    if v3 = 0 then (some ((-1000001), I, A)) else (ob2 (m_lays I A ) fun (I5 : Nat → Int32) (A6 : Nat → Nat → Int32) =>
      ob4 (m_crushed_L34 a0 NF I5 A6 (-1000000) 0) fun (I7 : Nat → Int32) (A8 : Nat → Nat → Int32) (v9 : Int32) (v10 : Int32) =>
      ob2 (m_putsBack I7 A8 ) fun (I11 : Nat → Int32) (A12 : Nat → Nat → Int32) =>
      some (v9, I11, A12))) else (some ((-1000002), I, A))
set_option maxRecDepth 100000 in
set_option maxHeartbeats 4000000 in
theorem m_crushed_met (l : Launch) (D : dd_) (ad : Nat → Nat) (hI : Inj mS ad) (I : Nat → Int32) (A : Nat → Nat → Int32) (a0 : Int32) (r : Int32) (I1 : (Nat → Int32)) (A1 : (Nat → Nat → Int32)) (hf : m_crushed I A a0 = some (r, I1, A1)) : Met l yX3_crushed (ws_ yX3_crushed cX3_crushed 4 (some .int)) ({ frames := 6, cells := 0, slots := 0, locals := 125 }) (PcW D mS ad I A nR nG [.ref (ad 99), .int a0]) (QcW D mS ad I1 A1 nR nG (some (.int r))) 0 0 (frS mS ad) := by
  refine Met.ofW (cc := cX3_crushed) (maxL := 4) (ret := (some .int)) (by decide) rfl ?_
  intro p e s m args below meth c s₁ B hml hv
  obtain ⟨rfl, hK, hW⟩ := hv
  have hx := B.exec
  have hb := B.bytes
  have hr := B.returns
  have hts := atoms_spec (ws := (ws_ yX3_crushed cX3_crushed 4 (some .int))) B.pre
  have hts : ∀ w ∈ lw_all, w.before _ s = true := fun w h => hts w (List.mem_cons_of_mem _ h)
  have hown : s.vm.findClass RX3 = some m.cls := findClass_of_methodNamed B.named
  have hlocks := B.notSynchronized
  have hRf : 6 ≤ (headSpec (ws_ yX3_crushed cX3_crushed 4 (some .int)) ({ frames := 6, cells := 0, slots := 0, locals := 125 })).room.frames := Nat.le_refl _
  have hRl : 125 ≤ (headSpec (ws_ yX3_crushed cX3_crushed 4 (some .int)) ({ frames := 6, cells := 0, slots := 0, locals := 125 })).room.locals := Nat.le_refl _
  have hcs : 0 ≤ (headSpec (ws_ yX3_crushed cX3_crushed 4 (some .int)) ({ frames := 6, cells := 0, slots := 0, locals := 125 })).room.cells ∧ 0 ≤ (headSpec (ws_ yX3_crushed cX3_crushed 4 (some .int)) ({ frames := 6, cells := 0, slots := 0, locals := 125 })).room.slots := ⟨Nat.zero_le _, Nat.zero_le _⟩
  have hA : ∀ i ∈ idxS mS, frS mS ad (ad i) := fun i hi => ⟨i, hi, rfl⟩
  have hS : va_S (frS mS ad) s.heap s.heap [] := va_S.rf
  have hl := lv_entry ([.ref (ad 99), .int a0]) (n := 4) (Nat.le_of_ble_eq_true rfl)
  rw [lg_entry_eq]
  generalize (lg_sl ([.ref (ad 99), .int a0]) ++ List.replicate (4 - (lg_sl ([.ref (ad 99), .int a0])).length) Slot.unset).toArray = ls at hl ⊢
  have hl : lv_has ls 4 [(0, .ref (ad 99)), (1, .int a0)] := hl
  have hf : (ob1 (m_isNone I A ) fun (v1 : Int32) =>
    if v1 = 0 then (ob1 (m_in a0.toInt64 1 60) fun (v3 : Int32) =>
      if v3 = 0 then (some ((-1000001), I, A)) else (ob2 (m_lays I A ) fun (I5 : Nat → Int32) (A6 : Nat → Nat → Int32) =>
        ob4 (m_crushed_L34 a0 NF I5 A6 (-1000000) 0) fun (I7 : Nat → Int32) (A8 : Nat → Nat → Int32) (v9 : Int32) (v10 : Int32) =>
        ob2 (m_putsBack I7 A8 ) fun (I11 : Nat → Int32) (A12 : Nat → Nat → Int32) =>
        some (v9, I11, A12))) else (some ((-1000002), I, A))) = some (r, I1, A1) := hf
  refine lv_aload_n hx hb dX3_crushed_0 rfl (lv_at hl 0 rfl) ?_
  obtain ⟨v1, h1, hf⟩ := ob1_e hf
  refine g_vR (ov := some (.int v1)) (D := D) (Sc := mS) (adc := ad) (Ic := I) (Ac := A) (Rc := nR) (Gc := nG) (As := []) (rest := []) (b := ad 99) (C := RX3) ⟨hx, hb, hml, hown, hts⟩ (m_isNone_met l D ad I A  v1 h1) (g_cwV 0 hts (lw_V q1446 q1448 qs53 q82 q1449) rfl rfl m_isNone_ds ⟨Nat.le_trans (Nat.le_of_ble_eq_true rfl) hRf, Nat.le_trans (Nat.le_of_ble_eq_true rfl) hRl⟩) (g_recv hK hW mO rfl) hK hW hcs rfl hl.1 rfl (Nat.le_of_ble_eq_true rfl) dX3_crushed_1 ?_
  refine lv_if_eq (tgt := 10) hx hb dX3_crushed_4 (by decide) (fun c2 => ?_) (fun c2 => ?_)
  · rw [if_pos c2] at hf
    refine lv_iload_n hx hb dX3_crushed_10 rfl (lv_at hl 1 rfl) ?_
    refine lv_i2l (v := a0.toInt64) hx hb dX3_crushed_11 rfl ?_
    refine lv_lconst (v := 1) hx hb dX3_crushed_12 (by decide) ?_
    refine lv_ldc2 (v := 60) hx hb hown (hts _ q1544) dX3_crushed_13 ?_
    obtain ⟨v3, h3, hf⟩ := ob1_e hf
    refine g_sR (ov := some (.int v3)) (D := D) (Sc := nS) (adc := ad) (Ic := (fun _ => 0)) (Ac := (fun _ _ => 0)) (Rc := nR) (Gc := nG) (As := [.long a0.toInt64, .long 1, .long 60]) (rest := []) ⟨hx, hb, hml, hown, hts⟩ (m_in_met l D ad a0.toInt64 1 60 v3 h3) (va_cwS 3 hts (lw_S q1294 q1295 q82 q1296) rfl rfl rfl m_in_ds.2 ⟨Nat.le_trans (Nat.le_of_ble_eq_true rfl) hRf, Nat.le_trans (Nat.le_of_ble_eq_true rfl) hRl⟩) hK WH_nil hcs rfl hl.1 rfl (Nat.le_of_ble_eq_true rfl) dX3_crushed_16 ?_
    refine lv_if_ne (tgt := 25) hx hb dX3_crushed_19 (by decide) (fun c4 => ?_) (fun c4 => ?_)
    · rw [if_neg c4] at hf
      refine lv_aload_n hx hb dX3_crushed_25 rfl (lv_at hl 0 rfl) ?_
      obtain ⟨I5, A6, h6, hf⟩ := ob2_e hf
      refine g_vW (ov := none) (D := D) (Sc := mS) (adc := ad) (Ic := I) (Ac := A) (Rc := nR) (Gc := nG) (As := []) (rest := []) (Ic1 := I5) (Ac1 := A6) (Rc1 := nR) (Gc1 := nG) (b := ad 99) (C := RX3) ⟨hx, hb, hml, hown, hts⟩ (m_lays_met l D ad hI I A  I5 A6 h6) (g_cwV 0 hts (lw_V q1545 q1547 qs61 q82 q1548) rfl rfl m_lays_ds ⟨Nat.le_trans (Nat.le_of_ble_eq_true rfl) hRf, Nat.le_trans (Nat.le_of_ble_eq_true rfl) hRl⟩) (g_recv hK hW mO rfl) hK hW hS hA hcs rfl hl.1 rfl (Nat.le_of_ble_eq_true rfl) dX3_crushed_26 (fun H locs hW _ hS => ?_)
      refine lv_ldc (v := (-1000000)) hx hb hown (hts _ q1492) dX3_crushed_29 ?_
      refine lv_istore_n (lv' := [(2, .int (-1000000)), (0, .ref (ad 99)), (1, .int a0)]) hx hb dX3_crushed_31 rfl hl (by decide) rfl (fun ls hl => ?_)
      refine lv_iconst (v := 0) hx hb dX3_crushed_32 (by decide) ?_
      refine lv_istore_n (lv' := [(3, .int 0), (2, .int (-1000000)), (0, .ref (ad 99)), (1, .int a0)]) hx hb dX3_crushed_33 rfl hl (by decide) rfl (fun ls hl => ?_)
      obtain ⟨I7, A8, v9, v10, hq10, hf⟩ := ob4_e hf
      refine m_crushed_L34_w hx hb hml hown hts hK hRf hRl hcs hI a0 I7 A8 v9 v10 (fun H locs ls hW hS hl => ?_) NF I5 A6 (-1000000) 0 _ _ ls hq10 hW hS (lv_sub hl [2, 3, 1, 0] rfl)
      refine lv_aload_n hx hb dX3_crushed_68 rfl (lv_at hl 0 rfl) ?_
      obtain ⟨I11, A12, h12, hf⟩ := ob2_e hf
      refine g_vW (ov := none) (D := D) (Sc := mS) (adc := ad) (Ic := I7) (Ac := A8) (Rc := nR) (Gc := nG) (As := []) (rest := []) (Ic1 := I11) (Ac1 := A12) (Rc1 := nR) (Gc1 := nG) (b := ad 99) (C := RX3) ⟨hx, hb, hml, hown, hts⟩ (m_putsBack_met l D ad hI I7 A8  I11 A12 h12) (g_cwV 0 hts (lw_V q1553 q1555 qs63 q82 q1556) rfl rfl m_putsBack_ds ⟨Nat.le_trans (Nat.le_of_ble_eq_true rfl) hRf, Nat.le_trans (Nat.le_of_ble_eq_true rfl) hRl⟩) (g_recv hK hW mO rfl) hK hW hS hA hcs rfl hl.1 rfl (Nat.le_of_ble_eq_true rfl) dX3_crushed_69 (fun H locs hW _ hS => ?_)
      refine lv_iload_n hx hb dX3_crushed_72 rfl (lv_at hl 1 rfl) ?_
      obtain ⟨rfl, rfl, rfl⟩ := so3 hf
      exact W.iret hx hb hr (fun t ht _ => ⟨rfl, by rw [ht]; exact hW, hS.F ht⟩) hS.2.2 dX3_crushed_73
    · rw [if_pos c4] at hf
      refine lv_ldc (v := (-1000001)) hx hb hown (hts _ q1298) dX3_crushed_22 ?_
      obtain ⟨rfl, rfl, rfl⟩ := so3 hf
      exact W.iret hx hb hr (fun t ht _ => ⟨rfl, by rw [ht]; exact hW, hS.F ht⟩) hS.2.2 dX3_crushed_24
  · rw [if_neg c2] at hf
    refine lv_ldc (v := (-1000002)) hx hb hown (hts _ q1391) dX3_crushed_7 ?_
    obtain ⟨rfl, rfl, rfl⟩ := so3 hf
    exact W.iret hx hb hr (fun t ht _ => ⟨rfl, by rw [ht]; exact hW, hS.F ht⟩) hS.2.2 dX3_crushed_9
theorem m_crushed_ds : yX3_crushed.cls = RX3 ∧ yX3_crushed.cls ≠ "java/lang/invoke/MethodHandle" ∧ yX3_crushed.cls ≠ "java/lang/invoke/VarHandle" ∧ (parseMethodDescriptor yX3_crushed.desc).map (fun d => d.parameters.length) = some 1 := by decide +kernel
/-! late -/
def m_late_L14 (I : Nat → Int32) (A : Nat → Nat → Int32) : Nat → Int32 → Int32 → Option (Int32 × Int32)
  | 0, _, _ => none
  | n + 1, x1, x2 =>
    ob1 (ldO (A 0) 2044 7) fun (v1 : Int32) =>
    if v1 ≤ x2 then (some (x1, x2)) else (ob1 (ldO (A 0) 2044 (65 + x2)) fun (v3 : Int32) =>
      ob1 (if v3 = 0 then (ob1 (ldO (A 0) 2044 (49 + x2)) fun (v6 : Int32) =>
          ob1 (ldO (A 0) 2044 8) fun (v7 : Int32) =>
          if v7 ≤ v6 then ((some 0 : Option (Int32))) else ((some ((1 : Int32) <<< (x2 &&& 31)) : Option (Int32)))) else ((some 0 : Option (Int32)))) fun (v4 : Int32) =>
      m_late_L14 I A n (x1 ||| v4) (x2 + 1))
set_option maxRecDepth 100000 in
set_option maxHeartbeats 4000000 in
theorem m_late_L14_w {p : Program} {l : Launch} {e : Env} {R0 : Room} {s : State} {m : MethodId} {args : Array Value} {below : List Frame} {meth : Method} {c : Code} {cells slots : Nat} {Q : State → Prop} {D : dd_} {ad : Nat → Nat} (hx : p.tables.exec = Jvm.exec) (hb : c.code = cX3_late) (hml : c.maxLocals = 3) (hown : s.vm.findClass RX3 = some m.cls) (hts : ∀ w ∈ lw_all, w.before args s = true) (hK : Kx D s) (hRf : 2 ≤ R0.frames) (hRl : 36 ≤ R0.locals) (hcs : cells ≤ R0.cells ∧ slots ≤ R0.slots) {H : Heap} {locs : List Loc} (I : Nat → Int32) (A : Nat → Nat → Int32) (hW : WH D mS ad I A nR nG H) (y1 : Int32) (y2 : Int32) (KX : ∀ (ls : Array Slot), lv_has ls 3 [(1, .int y1)] → W p l e R0 s m args below meth c H locs cells slots Q (F0 m 72 ls [])) : ∀ (n : Nat) (x1 : Int32) (x2 : Int32) (ls : Array Slot), m_late_L14 I A n x1 x2 = some (y1, y2) → lv_has ls 3 [(0, .ref (ad 99)), (1, .int x1), (2, .int x2)] → W p l e R0 s m args below meth c H locs cells slots Q (F0 m 14 ls []) := by
  intro n
  induction n with
  | zero =>
    intro x1 x2 ls hf
    exact nomatch (show (none : Option (Int32 × Int32)) = some (y1, y2) from hf)
  | succ n ih =>
    intro x1 x2 ls hf hl
    have hf : (ob1 (ldO (A 0) 2044 7) fun (v1 : Int32) =>
        if v1 ≤ x2 then (some (x1, x2)) else (ob1 (ldO (A 0) 2044 (65 + x2)) fun (v3 : Int32) =>
          ob1 (if v3 = 0 then (ob1 (ldO (A 0) 2044 (49 + x2)) fun (v6 : Int32) =>
              ob1 (ldO (A 0) 2044 8) fun (v7 : Int32) =>
              if v7 ≤ v6 then ((some 0 : Option (Int32))) else ((some ((1 : Int32) <<< (x2 &&& 31)) : Option (Int32)))) else ((some 0 : Option (Int32)))) fun (v4 : Int32) =>
          m_late_L14 I A n (x1 ||| v4) (x2 + 1))) = some (y1, y2) := hf
    refine lv_iload_n hx hb dX3_late_14 rfl (lv_at hl 2 rfl) ?_
    refine lv_aload_n hx hb dX3_late_15 rfl (lv_at hl 0 rfl) ?_
    refine g_get (v := .ref (ad 0)) hx hb hts hown hK hW mO in_X3 rfl 0 (by decide) q1212 rfl rfl dX3_late_16 ?_
    refine lv_bipush (v := 7) hx hb dX3_late_19 (by decide) ?_
    obtain ⟨v1, hv1, hf⟩ := ob1_e hf
    refine g_iald hx hb hK hW mA0 hv1 dX3_late_21 ?_
    refine lv_icmp_ge (tgt := 72) hx hb dX3_late_22 (by decide) (fun c2 => ?_) (fun c2 => ?_)
    · rw [if_pos c2] at hf
      obtain ⟨rfl, rfl⟩ := so2 hf
      exact KX ls (lv_sub hl [1] rfl)
    · rw [if_neg c2] at hf
      refine lv_iload_n hx hb dX3_late_25 rfl (lv_at hl 1 rfl) ?_
      refine lv_aload_n hx hb dX3_late_26 rfl (lv_at hl 0 rfl) ?_
      refine g_get (v := .ref (ad 0)) hx hb hts hown hK hW mO in_X3 rfl 0 (by decide) q1212 rfl rfl dX3_late_27 ?_
      refine lv_bipush (v := 65) hx hb dX3_late_30 (by decide) ?_
      refine lv_iload_n hx hb dX3_late_32 rfl (lv_at hl 2 rfl) ?_
      refine lv_iadd hx hb dX3_late_33 ?_
      obtain ⟨v3, hv3, hf⟩ := ob1_e hf
      refine g_iald hx hb hK hW mA0 hv3 dX3_late_34 ?_
      obtain ⟨v4, hm4, hf⟩ := ob1_e hf
      refine w_cutL (nL := 3) (L := [(0, .ref (ad 99)), (2, .int x2)]) (pcj := 64) (st := [.int v4, .int x1]) (fun ls hl => ?_) (fun K4 => ?_)
      · refine lv_ior hx hb dX3_late_64 ?_
        refine lv_istore_n (lv' := [(1, .int (x1 ||| v4)), (0, .ref (ad 99)), (2, .int x2)]) hx hb dX3_late_65 rfl hl (by decide) rfl (fun ls hl => ?_)
        refine lv_iinc (v := x2 + 1) (lv' := [(2, .int (x2 + 1)), (1, .int (x1 ||| v4)), (0, .ref (ad 99))]) hx hb dX3_late_66 hl (k := 2) rfl (by rfl) (by decide) rfl (fun ls hl => ?_)
        refine lv_goto (tgt := 14) hx hb dX3_late_69 (by decide) ?_
        exact ih (x1 ||| v4) (x2 + 1) ls hf (lv_sub hl [2, 1, 0] rfl)
      · refine lv_if_ne (tgt := 63) hx hb dX3_late_35 (by decide) (fun c5 => ?_) (fun c5 => ?_)
        · rw [if_neg c5] at hm4
          refine lv_iconst (v := 0) hx hb dX3_late_63 (by decide) ?_
          obtain rfl := so1 hm4
          exact K4 ls (lv_sub hl [0, 2] rfl)
        · rw [if_pos c5] at hm4
          refine lv_aload_n hx hb dX3_late_38 rfl (lv_at hl 0 rfl) ?_
          refine g_get (v := .ref (ad 0)) hx hb hts hown hK hW mO in_X3 rfl 0 (by decide) q1212 rfl rfl dX3_late_39 ?_
          refine lv_bipush (v := 49) hx hb dX3_late_42 (by decide) ?_
          refine lv_iload_n hx hb dX3_late_44 rfl (lv_at hl 2 rfl) ?_
          refine lv_iadd hx hb dX3_late_45 ?_
          obtain ⟨v6, hv6, hm4⟩ := ob1_e hm4
          refine g_iald hx hb hK hW mA0 hv6 dX3_late_46 ?_
          refine lv_aload_n hx hb dX3_late_47 rfl (lv_at hl 0 rfl) ?_
          refine g_get (v := .ref (ad 0)) hx hb hts hown hK hW mO in_X3 rfl 0 (by decide) q1212 rfl rfl dX3_late_48 ?_
          refine lv_bipush (v := 8) hx hb dX3_late_51 (by decide) ?_
          obtain ⟨v7, hv7, hm4⟩ := ob1_e hm4
          refine g_iald hx hb hK hW mA0 hv7 dX3_late_53 ?_
          refine lv_icmp_ge (tgt := 63) hx hb dX3_late_54 (by decide) (fun c8 => ?_) (fun c8 => ?_)
          · rw [if_pos c8] at hm4
            refine lv_iconst (v := 0) hx hb dX3_late_63 (by decide) ?_
            obtain rfl := so1 hm4
            exact K4 ls (lv_sub hl [0, 2] rfl)
          · rw [if_neg c8] at hm4
            refine lv_iconst (v := 1) hx hb dX3_late_57 (by decide) ?_
            refine lv_iload_n hx hb dX3_late_58 rfl (lv_at hl 2 rfl) ?_
            refine lv_ishl hx hb dX3_late_59 ?_
            refine lv_goto (tgt := 64) hx hb dX3_late_60 (by decide) ?_
            obtain rfl := so1 hm4
            exact K4 ls (lv_sub hl [0, 2] rfl)
def m_late (I : Nat → Int32) (A : Nat → Nat → Int32) : Option (Int32) :=
  ob1 (m_isNone I A ) fun (v1 : Int32) =>
  if v1 = 0 then (ob2 (m_late_L14 I A NF 0 0) fun (v3 : Int32) (v4 : Int32) =>
    some v3) else (some (-1000002))
set_option maxRecDepth 100000 in
set_option maxHeartbeats 4000000 in
theorem m_late_met (l : Launch) (D : dd_) (ad : Nat → Nat) (I : Nat → Int32) (A : Nat → Nat → Int32) (r : Int32) (hf : m_late I A  = some r) : Met l yX3_late (ws_ yX3_late cX3_late 3 (some .int)) ({ frames := 2, cells := 0, slots := 0, locals := 36 }) (PcW D mS ad I A nR nG [.ref (ad 99)]) (QcR (some (.int r))) 0 0 (fun _ => False) := by
  refine Met.ofW (cc := cX3_late) (maxL := 3) (ret := (some .int)) (by decide) rfl ?_
  intro p e s m args below meth c s₁ B hml hv
  obtain ⟨rfl, hK, hW⟩ := hv
  have hx := B.exec
  have hb := B.bytes
  have hr := B.returns
  have hts := atoms_spec (ws := (ws_ yX3_late cX3_late 3 (some .int))) B.pre
  have hts : ∀ w ∈ lw_all, w.before _ s = true := fun w h => hts w (List.mem_cons_of_mem _ h)
  have hown : s.vm.findClass RX3 = some m.cls := findClass_of_methodNamed B.named
  have hlocks := B.notSynchronized
  have hRf : 2 ≤ (headSpec (ws_ yX3_late cX3_late 3 (some .int)) ({ frames := 2, cells := 0, slots := 0, locals := 36 })).room.frames := Nat.le_refl _
  have hRl : 36 ≤ (headSpec (ws_ yX3_late cX3_late 3 (some .int)) ({ frames := 2, cells := 0, slots := 0, locals := 36 })).room.locals := Nat.le_refl _
  have hcs : 0 ≤ (headSpec (ws_ yX3_late cX3_late 3 (some .int)) ({ frames := 2, cells := 0, slots := 0, locals := 36 })).room.cells ∧ 0 ≤ (headSpec (ws_ yX3_late cX3_late 3 (some .int)) ({ frames := 2, cells := 0, slots := 0, locals := 36 })).room.slots := ⟨Nat.zero_le _, Nat.zero_le _⟩
  have hl := lv_entry ([.ref (ad 99)]) (n := 3) (Nat.le_of_ble_eq_true rfl)
  rw [lg_entry_eq]
  generalize (lg_sl ([.ref (ad 99)]) ++ List.replicate (3 - (lg_sl ([.ref (ad 99)])).length) Slot.unset).toArray = ls at hl ⊢
  have hl : lv_has ls 3 [(0, .ref (ad 99))] := hl
  have hf : (ob1 (m_isNone I A ) fun (v1 : Int32) =>
    if v1 = 0 then (ob2 (m_late_L14 I A NF 0 0) fun (v3 : Int32) (v4 : Int32) =>
      some v3) else (some (-1000002))) = some r := hf
  refine lv_aload_n hx hb dX3_late_0 rfl (lv_at hl 0 rfl) ?_
  obtain ⟨v1, h1, hf⟩ := ob1_e hf
  refine g_vR (ov := some (.int v1)) (D := D) (Sc := mS) (adc := ad) (Ic := I) (Ac := A) (Rc := nR) (Gc := nG) (As := []) (rest := []) (b := ad 99) (C := RX3) ⟨hx, hb, hml, hown, hts⟩ (m_isNone_met l D ad I A  v1 h1) (g_cwV 0 hts (lw_V q1446 q1448 qs53 q82 q1449) rfl rfl m_isNone_ds ⟨Nat.le_trans (Nat.le_of_ble_eq_true rfl) hRf, Nat.le_trans (Nat.le_of_ble_eq_true rfl) hRl⟩) (g_recv hK hW mO rfl) hK hW hcs rfl hl.1 rfl (Nat.le_of_ble_eq_true rfl) dX3_late_1 ?_
  refine lv_if_eq (tgt := 10) hx hb dX3_late_4 (by decide) (fun c2 => ?_) (fun c2 => ?_)
  · rw [if_pos c2] at hf
    refine lv_iconst (v := 0) hx hb dX3_late_10 (by decide) ?_
    refine lv_istore_n (lv' := [(1, .int 0), (0, .ref (ad 99))]) hx hb dX3_late_11 rfl hl (by decide) rfl (fun ls hl => ?_)
    refine lv_iconst (v := 0) hx hb dX3_late_12 (by decide) ?_
    refine lv_istore_n (lv' := [(2, .int 0), (1, .int 0), (0, .ref (ad 99))]) hx hb dX3_late_13 rfl hl (by decide) rfl (fun ls hl => ?_)
    obtain ⟨v3, v4, hq4, hf⟩ := ob2_e hf
    refine m_late_L14_w hx hb hml hown hts hK hRf hRl hcs I A hW v3 v4 (fun ls hl => ?_) NF 0 0 ls hq4 (lv_sub hl [2, 1, 0] rfl)
    refine lv_iload_n hx hb dX3_late_72 rfl (lv_at hl 0 rfl) ?_
    obtain rfl := so1 hf
    exact W.iret hx hb hr (fun t ht _ => ⟨rfl, ht⟩) (fun q hq => by cases hq) dX3_late_73
  · rw [if_neg c2] at hf
    refine lv_ldc (v := (-1000002)) hx hb hown (hts _ q1391) dX3_late_7 ?_
    obtain rfl := so1 hf
    exact W.iret hx hb hr (fun t ht _ => ⟨rfl, ht⟩) (fun q hq => by cases hq) dX3_late_9
theorem m_late_ds : yX3_late.cls = RX3 ∧ yX3_late.cls ≠ "java/lang/invoke/MethodHandle" ∧ yX3_late.cls ≠ "java/lang/invoke/VarHandle" ∧ (parseMethodDescriptor yX3_late.desc).map (fun d => d.parameters.length) = some 0 := by decide +kernel
/-! year -/
def m_year_L58 (u1 : Int32) (u3 : Int32) : Nat → (Nat → Int32) → (Nat → Nat → Int32) → Int64 → Int32 → Option ((Nat → Int32) × (Nat → Nat → Int32) × Int64 × Int32)
  | 0, _, _, _, _ => none
  | n + 1, I, A, x4, x6 =>
    if u1 ≤ x6 then (some (I, A, x4, x6)) else (ob1 (lremO (x4 * 16807) 2147483647) fun (w2 : Int64) =>
      ob1 (ldO (A 0) 2044 6) fun (v3 : Int32) =>
      ob1 (lremO w2 v3.toInt64) fun (w4 : Int64) =>
      ob1 (lremO w2 2) fun (w5 : Int64) =>
      ob1 (if (lg_cmp w5 0) = 0 then ((some 1 : Option (Int32))) else ((some (-1) : Option (Int32)))) fun (v6 : Int32) =>
      ob1 (ldO (A 0) 2044 (20 + w4.toInt32)) fun (v8 : Int32) =>
      ob1 (m_canWalk I A w4.toInt32 v6) fun (v9 : Int32) =>
      ob1 (if v9 = 0 then ((some 0 : Option (Int32))) else ((some v6 : Option (Int32)))) fun (v10 : Int32) =>
      ob1 (stO (A 0) 2044 (20 + w4.toInt32) (v8 + v10)) fun (f12 : Nat → Int32) =>
      ob2 (m_grows I (va_up A 0 f12) ) fun (I13 : Nat → Int32) (A14 : Nat → Nat → Int32) =>
      m_year_L58 u1 u3 n I13 A14 w2 (x6 + 1))
set_option maxRecDepth 100000 in
set_option maxHeartbeats 4000000 in
theorem m_year_L58_w {p : Program} {l : Launch} {e : Env} {R0 : Room} {s : State} {m : MethodId} {args : Array Value} {below : List Frame} {meth : Method} {c : Code} {cells slots : Nat} {Q : State → Prop} {D : dd_} {ad : Nat → Nat} (hx : p.tables.exec = Jvm.exec) (hb : c.code = cX3_year) (hml : c.maxLocals = 9) (hown : s.vm.findClass RX3 = some m.cls) (hts : ∀ w ∈ lw_all, w.before args s = true) (hK : Kx D s) (hRf : 6 ≤ R0.frames) (hRl : 129 ≤ R0.locals) (hcs : cells ≤ R0.cells ∧ slots ≤ R0.slots) (hI : Inj mS ad) (u1 : Int32) (u3 : Int32) (I9 : (Nat → Int32)) (A9 : (Nat → Nat → Int32)) (y4 : Int64) (y6 : Int32) (KX : ∀ (H : Heap) (locs : List Loc) (ls : Array Slot), WH D mS ad I9 A9 nR nG H → va_S (frS mS ad) s.heap H locs → lv_has ls 9 [(0, .ref (ad 99)), (3, .int u3)] → W p l e R0 s m args below meth c H locs cells slots Q (F0 m 148 ls [])) : ∀ (n : Nat) (I : (Nat → Int32)) (A : (Nat → Nat → Int32)) (x4 : Int64) (x6 : Int32) (H : Heap) (locs : List Loc) (ls : Array Slot), m_year_L58 u1 u3 n I A x4 x6 = some (I9, A9, y4, y6) → WH D mS ad I A nR nG H → va_S (frS mS ad) s.heap H locs → lv_has ls 9 [(0, .ref (ad 99)), (1, .int u1), (3, .int u3), (4, .long x4), (6, .int x6)] → W p l e R0 s m args below meth c H locs cells slots Q (F0 m 58 ls []) := by
  intro n
  have hA : ∀ i ∈ idxS mS, frS mS ad (ad i) := fun i hi => ⟨i, hi, rfl⟩
  induction n with
  | zero =>
    intro I A x4 x6 H locs ls hf
    exact nomatch (show (none : Option ((Nat → Int32) × (Nat → Nat → Int32) × Int64 × Int32)) = some (I9, A9, y4, y6) from hf)
  | succ n ih =>
    intro I A x4 x6 H locs ls hf hW hS hl
    have hf : (if u1 ≤ x6 then (some (I, A, x4, x6)) else (ob1 (lremO (x4 * 16807) 2147483647) fun (w2 : Int64) =>
          ob1 (ldO (A 0) 2044 6) fun (v3 : Int32) =>
          ob1 (lremO w2 v3.toInt64) fun (w4 : Int64) =>
          ob1 (lremO w2 2) fun (w5 : Int64) =>
          ob1 (if (lg_cmp w5 0) = 0 then ((some 1 : Option (Int32))) else ((some (-1) : Option (Int32)))) fun (v6 : Int32) =>
          ob1 (ldO (A 0) 2044 (20 + w4.toInt32)) fun (v8 : Int32) =>
          ob1 (m_canWalk I A w4.toInt32 v6) fun (v9 : Int32) =>
          ob1 (if v9 = 0 then ((some 0 : Option (Int32))) else ((some v6 : Option (Int32)))) fun (v10 : Int32) =>
          ob1 (stO (A 0) 2044 (20 + w4.toInt32) (v8 + v10)) fun (f12 : Nat → Int32) =>
          ob2 (m_grows I (va_up A 0 f12) ) fun (I13 : Nat → Int32) (A14 : Nat → Nat → Int32) =>
          m_year_L58 u1 u3 n I13 A14 w2 (x6 + 1))) = some (I9, A9, y4, y6) := hf
    refine lv_iload hx hb dX3_year_58 (lv_at hl 4 rfl) ?_
    refine lv_iload_n hx hb dX3_year_60 rfl (lv_at hl 1 rfl) ?_
    refine lv_icmp_ge (tgt := 148) hx hb dX3_year_61 (by decide) (fun c1 => ?_) (fun c1 => ?_)
    · rw [if_pos c1] at hf
      obtain ⟨rfl, rfl, rfl, rfl⟩ := so4 hf
      exact KX _ _ ls hW hS (lv_sub hl [0, 2] rfl)
    · rw [if_neg c1] at hf
      refine lv_lload hx hb dX3_year_64 (lv_at hl 3 rfl) ?_
      refine lv_ldc2 (v := 16807) hx hb hown (hts _ q1566) dX3_year_66 ?_
      refine lv_lmul hx hb dX3_year_69 ?_
      refine lv_ldc2 (v := 2147483647) hx hb hown (hts _ q1567) dX3_year_70 ?_
      obtain ⟨w2, hw2, hf⟩ := ob1_e hf
      refine g_lrem hx hb hw2 dX3_year_73 ?_
      refine lv_lstore (lv' := [(4, .long w2), (0, .ref (ad 99)), (1, .int u1), (3, .int u3), (6, .int x6)]) hx hb dX3_year_74 hl (by decide) rfl (fun ls hl => ?_)
      refine lv_lload hx hb dX3_year_76 (lv_at hl 0 rfl) ?_
      refine lv_aload_n hx hb dX3_year_78 rfl (lv_at hl 1 rfl) ?_
      refine g_get (v := .ref (ad 0)) hx hb hts hown hK hW mO in_X3 rfl 0 (by decide) q1212 rfl rfl dX3_year_79 ?_
      refine lv_bipush (v := 6) hx hb dX3_year_82 (by decide) ?_
      obtain ⟨v3, hv3, hf⟩ := ob1_e hf
      refine g_iald hx hb hK hW mA0 hv3 dX3_year_84 ?_
      refine lv_i2l (v := v3.toInt64) hx hb dX3_year_85 rfl ?_
      obtain ⟨w4, hw4, hf⟩ := ob1_e hf
      refine g_lrem hx hb hw4 dX3_year_86 ?_
      refine lv_l2i (v := w4.toInt32) hx hb dX3_year_87 rfl ?_
      refine lv_istore (lv' := [(7, .int w4.toInt32), (4, .long w2), (0, .ref (ad 99)), (1, .int u1), (3, .int u3), (6, .int x6)]) hx hb dX3_year_88 hl (by decide) rfl (fun ls hl => ?_)
      refine lv_lload hx hb dX3_year_90 (lv_at hl 1 rfl) ?_
      refine lv_ldc2 (v := 2) hx hb hown (hts _ q1297) dX3_year_92 ?_
      obtain ⟨w5, hw5, hf⟩ := ob1_e hf
      refine g_lrem hx hb hw5 dX3_year_95 ?_
      refine lv_lconst (v := 0) hx hb dX3_year_96 (by decide) ?_
      refine W.lcmp hx hb dX3_year_97 ?_
      obtain ⟨v6, hm6, hf⟩ := ob1_e hf
      refine w_cutL (nL := 9) (L := [(0, .ref (ad 99)), (1, .int u1), (3, .int u3), (4, .long w2), (6, .int x6), (7, .int w4.toInt32)]) (pcj := 106) (st := [.int v6]) (fun ls hl => ?_) (fun K6 => ?_)
      · refine lv_istore (lv' := [(8, .int v6), (0, .ref (ad 99)), (1, .int u1), (3, .int u3), (4, .long w2), (6, .int x6), (7, .int w4.toInt32)]) hx hb dX3_year_106 hl (by decide) rfl (fun ls hl => ?_)
        refine lv_aload_n hx hb dX3_year_108 rfl (lv_at hl 1 rfl) ?_
        refine g_get (v := .ref (ad 0)) hx hb hts hown hK hW mO in_X3 rfl 0 (by decide) q1212 rfl rfl dX3_year_109 ?_
        refine lv_bipush (v := 20) hx hb dX3_year_112 (by decide) ?_
        refine lv_iload hx hb dX3_year_114 (lv_at hl 6 rfl) ?_
        refine lv_iadd hx hb dX3_year_116 ?_
        refine lv_dup2_11 hx hb dX3_year_117 rfl rfl ?_
        obtain ⟨v8, hv8, hf⟩ := ob1_e hf
        refine g_iald hx hb hK hW mA0 hv8 dX3_year_118 ?_
        refine lv_aload_n hx hb dX3_year_119 rfl (lv_at hl 1 rfl) ?_
        refine lv_iload hx hb dX3_year_120 (lv_at hl 6 rfl) ?_
        refine lv_iload hx hb dX3_year_122 (lv_at hl 0 rfl) ?_
        obtain ⟨v9, h9, hf⟩ := ob1_e hf
        refine g_vR (ov := some (.int v9)) (D := D) (Sc := mS) (adc := ad) (Ic := I) (Ac := A) (Rc := nR) (Gc := nG) (As := [.int w4.toInt32, .int v6]) (rest := [.int v8, .int (20 + w4.toInt32), .ref (ad 0)]) (b := ad 99) (C := RX3) ⟨hx, hb, hml, hown, hts⟩ (m_canWalk_met l D ad I A w4.toInt32 v6 v9 h9) (g_cwV 2 hts (lw_V q1400 q1402 qs47 q82 q1403) rfl rfl m_canWalk_ds ⟨Nat.le_trans (Nat.le_of_ble_eq_true rfl) hRf, Nat.le_trans (Nat.le_of_ble_eq_true rfl) hRl⟩) (g_recv hK hW mO rfl) hK hW hcs rfl hl.1 rfl (Nat.le_of_ble_eq_true rfl) dX3_year_124 ?_
        obtain ⟨v10, hm10, hf⟩ := ob1_e hf
        refine w_cutL (nL := 9) (L := [(0, .ref (ad 99)), (1, .int u1), (3, .int u3), (4, .long w2), (6, .int x6)]) (pcj := 136) (st := [.int v10, .int v8, .int (20 + w4.toInt32), .ref (ad 0)]) (fun ls hl => ?_) (fun K10 => ?_)
        · refine lv_iadd hx hb dX3_year_136 ?_
          obtain ⟨f12, hf12, hf⟩ := ob1_e hf
          refine g_iast hx hb hK mwf hI hA hW hS mA0 hf12 dX3_year_137 (fun H locs hW hS => ?_)
          refine lv_aload_n hx hb dX3_year_138 rfl (lv_at hl 0 rfl) ?_
          obtain ⟨I13, A14, h14, hf⟩ := ob2_e hf
          refine g_vW (ov := none) (D := D) (Sc := mS) (adc := ad) (Ic := I) (Ac := (va_up A 0 f12)) (Rc := nR) (Gc := nG) (As := []) (rest := []) (Ic1 := I13) (Ac1 := A14) (Rc1 := nR) (Gc1 := nG) (b := ad 99) (C := RX3) ⟨hx, hb, hml, hown, hts⟩ (m_grows_met l D ad hI I (va_up A 0 f12)  I13 A14 h14) (g_cwV 0 hts (lw_V q1451 q1453 qs54 q82 q1454) rfl rfl m_grows_ds ⟨Nat.le_trans (Nat.le_of_ble_eq_true rfl) hRf, Nat.le_trans (Nat.le_of_ble_eq_true rfl) hRl⟩) (g_recv hK hW mO rfl) hK hW hS hA hcs rfl hl.1 rfl (Nat.le_of_ble_eq_true rfl) dX3_year_139 (fun H locs hW _ hS => ?_)
          refine lv_iinc (v := x6 + 1) (lv' := [(6, .int (x6 + 1)), (0, .ref (ad 99)), (1, .int u1), (3, .int u3), (4, .long w2)]) hx hb dX3_year_142 hl (k := 4) rfl (by rfl) (by decide) rfl (fun ls hl => ?_)
          refine lv_goto (tgt := 58) hx hb dX3_year_145 (by decide) ?_
          exact ih I13 A14 w2 (x6 + 1) _ _ ls hf hW hS (lv_sub hl [1, 2, 3, 4, 0] rfl)
        · refine lv_if_eq (tgt := 135) hx hb dX3_year_127 (by decide) (fun c11 => ?_) (fun c11 => ?_)
          · rw [if_pos c11] at hm10
            refine lv_iconst (v := 0) hx hb dX3_year_135 (by decide) ?_
            obtain rfl := so1 hm10
            exact K10 ls (lv_sub hl [1, 2, 3, 4, 5] rfl)
          · rw [if_neg c11] at hm10
            refine lv_iload hx hb dX3_year_130 (lv_at hl 0 rfl) ?_
            refine lv_goto (tgt := 136) hx hb dX3_year_132 (by decide) ?_
            obtain rfl := so1 hm10
            exact K10 ls (lv_sub hl [1, 2, 3, 4, 5] rfl)
      · refine lv_if_ne (tgt := 105) hx hb dX3_year_98 (by decide) (fun c7 => ?_) (fun c7 => ?_)
        · rw [if_neg c7] at hm6
          refine lv_iconst (v := (-1)) hx hb dX3_year_105 (by decide) ?_
          obtain rfl := so1 hm6
          exact K6 ls (lv_sub hl [2, 3, 4, 1, 5, 0] rfl)
        · rw [if_pos c7] at hm6
          refine lv_iconst (v := 1) hx hb dX3_year_101 (by decide) ?_
          refine lv_goto (tgt := 106) hx hb dX3_year_102 (by decide) ?_
          obtain rfl := so1 hm6
          exact K6 ls (lv_sub hl [2, 3, 4, 1, 5, 0] rfl)
def m_year_L157 (I : Nat → Int32) (A : Nat → Nat → Int32) (u3 : Int32) : Nat → Int32 → Int32 → Int32 → Option (Int32 × Int32 × Int32)
  | 0, _, _, _ => none
  | n + 1, x6, x7, x8 =>
    ob1 (ldO (A 0) 2044 6) fun (v1 : Int32) =>
    if v1 ≤ x8 then (some (x6, x7, x8)) else (ob1 (ldO (A 0) 2044 (20 + x8)) fun (v3 : Int32) =>
      ob1 (ldO (A 0) 2044 (20 + x8)) fun (v4 : Int32) =>
      ob1 (ldO (A 0) 2044 (0 + v4)) fun (v5 : Int32) =>
      ob1 (ldO (A 0) 2044 (20 + x7)) fun (v6 : Int32) =>
      ob1 (ldO (A 0) 2044 (0 + v6)) fun (v7 : Int32) =>
      ob1 (if v5 ≤ v7 then ((some x7 : Option (Int32))) else ((some x8 : Option (Int32)))) fun (v8 : Int32) =>
      m_year_L157 I A u3 n (x6 + v3) v8 (x8 + 1))
set_option maxRecDepth 100000 in
set_option maxHeartbeats 4000000 in
theorem m_year_L157_w {p : Program} {l : Launch} {e : Env} {R0 : Room} {s : State} {m : MethodId} {args : Array Value} {below : List Frame} {meth : Method} {c : Code} {cells slots : Nat} {Q : State → Prop} {D : dd_} {ad : Nat → Nat} (hx : p.tables.exec = Jvm.exec) (hb : c.code = cX3_year) (hml : c.maxLocals = 9) (hown : s.vm.findClass RX3 = some m.cls) (hts : ∀ w ∈ lw_all, w.before args s = true) (hK : Kx D s) (hRf : 6 ≤ R0.frames) (hRl : 129 ≤ R0.locals) (hcs : cells ≤ R0.cells ∧ slots ≤ R0.slots) {H : Heap} {locs : List Loc} (I : Nat → Int32) (A : Nat → Nat → Int32) (u3 : Int32) (hW : WH D mS ad I A nR nG H) (y6 : Int32) (y7 : Int32) (y8 : Int32) (KX : ∀ (ls : Array Slot), lv_has ls 9 [(0, .ref (ad 99)), (3, .int u3), (6, .int y6), (7, .int y7)] → W p l e R0 s m args below meth c H locs cells slots Q (F0 m 236 ls [])) : ∀ (n : Nat) (x6 : Int32) (x7 : Int32) (x8 : Int32) (ls : Array Slot), m_year_L157 I A u3 n x6 x7 x8 = some (y6, y7, y8) → lv_has ls 9 [(0, .ref (ad 99)), (3, .int u3), (6, .int x6), (7, .int x7), (8, .int x8)] → W p l e R0 s m args below meth c H locs cells slots Q (F0 m 157 ls []) := by
  intro n
  induction n with
  | zero =>
    intro x6 x7 x8 ls hf
    exact nomatch (show (none : Option (Int32 × Int32 × Int32)) = some (y6, y7, y8) from hf)
  | succ n ih =>
    intro x6 x7 x8 ls hf hl
    have hf : (ob1 (ldO (A 0) 2044 6) fun (v1 : Int32) =>
        if v1 ≤ x8 then (some (x6, x7, x8)) else (ob1 (ldO (A 0) 2044 (20 + x8)) fun (v3 : Int32) =>
          ob1 (ldO (A 0) 2044 (20 + x8)) fun (v4 : Int32) =>
          ob1 (ldO (A 0) 2044 (0 + v4)) fun (v5 : Int32) =>
          ob1 (ldO (A 0) 2044 (20 + x7)) fun (v6 : Int32) =>
          ob1 (ldO (A 0) 2044 (0 + v6)) fun (v7 : Int32) =>
          ob1 (if v5 ≤ v7 then ((some x7 : Option (Int32))) else ((some x8 : Option (Int32)))) fun (v8 : Int32) =>
          m_year_L157 I A u3 n (x6 + v3) v8 (x8 + 1))) = some (y6, y7, y8) := hf
    refine lv_iload hx hb dX3_year_157 (lv_at hl 4 rfl) ?_
    refine lv_aload_n hx hb dX3_year_159 rfl (lv_at hl 0 rfl) ?_
    refine g_get (v := .ref (ad 0)) hx hb hts hown hK hW mO in_X3 rfl 0 (by decide) q1212 rfl rfl dX3_year_160 ?_
    refine lv_bipush (v := 6) hx hb dX3_year_163 (by decide) ?_
    obtain ⟨v1, hv1, hf⟩ := ob1_e hf
    refine g_iald hx hb hK hW mA0 hv1 dX3_year_165 ?_
    refine lv_icmp_ge (tgt := 236) hx hb dX3_year_166 (by decide) (fun c2 => ?_) (fun c2 => ?_)
    · rw [if_pos c2] at hf
      obtain ⟨rfl, rfl, rfl⟩ := so3 hf
      exact KX ls (lv_sub hl [0, 1, 2, 3] rfl)
    · rw [if_neg c2] at hf
      refine lv_iload hx hb dX3_year_169 (lv_at hl 2 rfl) ?_
      refine lv_aload_n hx hb dX3_year_171 rfl (lv_at hl 0 rfl) ?_
      refine g_get (v := .ref (ad 0)) hx hb hts hown hK hW mO in_X3 rfl 0 (by decide) q1212 rfl rfl dX3_year_172 ?_
      refine lv_bipush (v := 20) hx hb dX3_year_175 (by decide) ?_
      refine lv_iload hx hb dX3_year_177 (lv_at hl 4 rfl) ?_
      refine lv_iadd hx hb dX3_year_179 ?_
      obtain ⟨v3, hv3, hf⟩ := ob1_e hf
      refine g_iald hx hb hK hW mA0 hv3 dX3_year_180 ?_
      refine lv_iadd hx hb dX3_year_181 ?_
      refine lv_istore (lv' := [(6, .int (x6 + v3)), (0, .ref (ad 99)), (3, .int u3), (7, .int x7), (8, .int x8)]) hx hb dX3_year_182 hl (by decide) rfl (fun ls hl => ?_)
      refine lv_aload_n hx hb dX3_year_184 rfl (lv_at hl 1 rfl) ?_
      refine g_get (v := .ref (ad 0)) hx hb hts hown hK hW mO in_X3 rfl 0 (by decide) q1212 rfl rfl dX3_year_185 ?_
      refine lv_iconst (v := 0) hx hb dX3_year_188 (by decide) ?_
      refine lv_aload_n hx hb dX3_year_189 rfl (lv_at hl 1 rfl) ?_
      refine g_get (v := .ref (ad 0)) hx hb hts hown hK hW mO in_X3 rfl 0 (by decide) q1212 rfl rfl dX3_year_190 ?_
      refine lv_bipush (v := 20) hx hb dX3_year_193 (by decide) ?_
      refine lv_iload hx hb dX3_year_195 (lv_at hl 4 rfl) ?_
      refine lv_iadd hx hb dX3_year_197 ?_
      obtain ⟨v4, hv4, hf⟩ := ob1_e hf
      refine g_iald hx hb hK hW mA0 hv4 dX3_year_198 ?_
      refine lv_iadd hx hb dX3_year_199 ?_
      obtain ⟨v5, hv5, hf⟩ := ob1_e hf
      refine g_iald hx hb hK hW mA0 hv5 dX3_year_200 ?_
      refine lv_aload_n hx hb dX3_year_201 rfl (lv_at hl 1 rfl) ?_
      refine g_get (v := .ref (ad 0)) hx hb hts hown hK hW mO in_X3 rfl 0 (by decide) q1212 rfl rfl dX3_year_202 ?_
      refine lv_iconst (v := 0) hx hb dX3_year_205 (by decide) ?_
      refine lv_aload_n hx hb dX3_year_206 rfl (lv_at hl 1 rfl) ?_
      refine g_get (v := .ref (ad 0)) hx hb hts hown hK hW mO in_X3 rfl 0 (by decide) q1212 rfl rfl dX3_year_207 ?_
      refine lv_bipush (v := 20) hx hb dX3_year_210 (by decide) ?_
      refine lv_iload hx hb dX3_year_212 (lv_at hl 3 rfl) ?_
      refine lv_iadd hx hb dX3_year_214 ?_
      obtain ⟨v6, hv6, hf⟩ := ob1_e hf
      refine g_iald hx hb hK hW mA0 hv6 dX3_year_215 ?_
      refine lv_iadd hx hb dX3_year_216 ?_
      obtain ⟨v7, hv7, hf⟩ := ob1_e hf
      refine g_iald hx hb hK hW mA0 hv7 dX3_year_217 ?_
      obtain ⟨v8, hm8, hf⟩ := ob1_e hf
      refine w_cutL (nL := 9) (L := [(0, .ref (ad 99)), (3, .int u3), (6, .int (x6 + v3)), (8, .int x8)]) (pcj := 228) (st := [.int v8]) (fun ls hl => ?_) (fun K8 => ?_)
      · refine lv_istore (lv' := [(7, .int v8), (0, .ref (ad 99)), (3, .int u3), (6, .int (x6 + v3)), (8, .int x8)]) hx hb dX3_year_228 hl (by decide) rfl (fun ls hl => ?_)
        refine lv_iinc (v := x8 + 1) (lv' := [(8, .int (x8 + 1)), (7, .int v8), (0, .ref (ad 99)), (3, .int u3), (6, .int (x6 + v3))]) hx hb dX3_year_230 hl (k := 4) rfl (by rfl) (by decide) rfl (fun ls hl => ?_)
        refine lv_goto (tgt := 157) hx hb dX3_year_233 (by decide) ?_
        exact ih (x6 + v3) v8 (x8 + 1) ls hf (lv_sub hl [2, 3, 4, 1, 0] rfl)
      · refine lv_icmp_le (tgt := 226) hx hb dX3_year_218 (by decide) (fun c9 => ?_) (fun c9 => ?_)
        · rw [if_pos c9] at hm8
          refine lv_iload hx hb dX3_year_226 (lv_at hl 3 rfl) ?_
          obtain rfl := so1 hm8
          exact K8 ls (lv_sub hl [1, 2, 0, 4] rfl)
        · rw [if_neg c9] at hm8
          refine lv_iload hx hb dX3_year_221 (lv_at hl 4 rfl) ?_
          refine lv_goto (tgt := 228) hx hb dX3_year_223 (by decide) ?_
          obtain rfl := so1 hm8
          exact K8 ls (lv_sub hl [1, 2, 0, 4] rfl)
def m_year (I : Nat → Int32) (A : Nat → Nat → Int32) (a0 : Int32) (a1 : Int32) (a2 : Int32) : Option (Int32 × (Nat → Int32) × (Nat → Nat → Int32)) :=
  ob1 (m_isNone I A ) fun (v1 : Int32) =>
  if v1 = 0 then (ob1 (m_in a0.toInt64 0 60) fun (v3 : Int32) =>
    if v3 = 0 then (some ((-1000001), I, A)) else (ob1 (m_in a1.toInt64 1 999999) fun (v5 : Int32) =>
      if v5 = 0 then (some ((-1000001), I, A)) else (ob1 (m_in a2.toInt64 0 1) fun (v7 : Int32) =>
        if v7 = 0 then (some ((-1000001), I, A)) else (ob2 (m_lays I A ) fun (I9 : Nat → Int32) (A10 : Nat → Nat → Int32) =>
          ob4 (m_year_L58 a0 a2 NF I9 A10 a1.toInt64 0) fun (I11 : Nat → Int32) (A12 : Nat → Nat → Int32) (w13 : Int64) (v14 : Int32) =>
          ob3 (m_year_L157 I11 A12 a2 NF 0 0 0) fun (v15 : Int32) (v16 : Int32) (v17 : Int32) =>
          ob2 (m_putsBack I11 A12 ) fun (I18 : Nat → Int32) (A19 : Nat → Nat → Int32) =>
          ob1 (if a2 = 0 then ((some v16 : Option (Int32))) else ((some v15 : Option (Int32)))) fun (v20 : Int32) =>
          some (v20, I18, A19))))) else (some ((-1000002), I, A))
set_option maxRecDepth 100000 in
set_option maxHeartbeats 4000000 in
theorem m_year_met (l : Launch) (D : dd_) (ad : Nat → Nat) (hI : Inj mS ad) (I : Nat → Int32) (A : Nat → Nat → Int32) (a0 : Int32) (a1 : Int32) (a2 : Int32) (r : Int32) (I1 : (Nat → Int32)) (A1 : (Nat → Nat → Int32)) (hf : m_year I A a0 a1 a2 = some (r, I1, A1)) : Met l yX3_year (ws_ yX3_year cX3_year 9 (some .int)) ({ frames := 6, cells := 0, slots := 0, locals := 129 }) (PcW D mS ad I A nR nG [.ref (ad 99), .int a0, .int a1, .int a2]) (QcW D mS ad I1 A1 nR nG (some (.int r))) 0 0 (frS mS ad) := by
  refine Met.ofW (cc := cX3_year) (maxL := 9) (ret := (some .int)) (by decide) rfl ?_
  intro p e s m args below meth c s₁ B hml hv
  obtain ⟨rfl, hK, hW⟩ := hv
  have hx := B.exec
  have hb := B.bytes
  have hr := B.returns
  have hts := atoms_spec (ws := (ws_ yX3_year cX3_year 9 (some .int))) B.pre
  have hts : ∀ w ∈ lw_all, w.before _ s = true := fun w h => hts w (List.mem_cons_of_mem _ h)
  have hown : s.vm.findClass RX3 = some m.cls := findClass_of_methodNamed B.named
  have hlocks := B.notSynchronized
  have hRf : 6 ≤ (headSpec (ws_ yX3_year cX3_year 9 (some .int)) ({ frames := 6, cells := 0, slots := 0, locals := 129 })).room.frames := Nat.le_refl _
  have hRl : 129 ≤ (headSpec (ws_ yX3_year cX3_year 9 (some .int)) ({ frames := 6, cells := 0, slots := 0, locals := 129 })).room.locals := Nat.le_refl _
  have hcs : 0 ≤ (headSpec (ws_ yX3_year cX3_year 9 (some .int)) ({ frames := 6, cells := 0, slots := 0, locals := 129 })).room.cells ∧ 0 ≤ (headSpec (ws_ yX3_year cX3_year 9 (some .int)) ({ frames := 6, cells := 0, slots := 0, locals := 129 })).room.slots := ⟨Nat.zero_le _, Nat.zero_le _⟩
  have hA : ∀ i ∈ idxS mS, frS mS ad (ad i) := fun i hi => ⟨i, hi, rfl⟩
  have hS : va_S (frS mS ad) s.heap s.heap [] := va_S.rf
  have hl := lv_entry ([.ref (ad 99), .int a0, .int a1, .int a2]) (n := 9) (Nat.le_of_ble_eq_true rfl)
  rw [lg_entry_eq]
  generalize (lg_sl ([.ref (ad 99), .int a0, .int a1, .int a2]) ++ List.replicate (9 - (lg_sl ([.ref (ad 99), .int a0, .int a1, .int a2])).length) Slot.unset).toArray = ls at hl ⊢
  have hl : lv_has ls 9 [(0, .ref (ad 99)), (1, .int a0), (2, .int a1), (3, .int a2)] := hl
  have hf : (ob1 (m_isNone I A ) fun (v1 : Int32) =>
    if v1 = 0 then (ob1 (m_in a0.toInt64 0 60) fun (v3 : Int32) =>
      if v3 = 0 then (some ((-1000001), I, A)) else (ob1 (m_in a1.toInt64 1 999999) fun (v5 : Int32) =>
        if v5 = 0 then (some ((-1000001), I, A)) else (ob1 (m_in a2.toInt64 0 1) fun (v7 : Int32) =>
          if v7 = 0 then (some ((-1000001), I, A)) else (ob2 (m_lays I A ) fun (I9 : Nat → Int32) (A10 : Nat → Nat → Int32) =>
            ob4 (m_year_L58 a0 a2 NF I9 A10 a1.toInt64 0) fun (I11 : Nat → Int32) (A12 : Nat → Nat → Int32) (w13 : Int64) (v14 : Int32) =>
            ob3 (m_year_L157 I11 A12 a2 NF 0 0 0) fun (v15 : Int32) (v16 : Int32) (v17 : Int32) =>
            ob2 (m_putsBack I11 A12 ) fun (I18 : Nat → Int32) (A19 : Nat → Nat → Int32) =>
            ob1 (if a2 = 0 then ((some v16 : Option (Int32))) else ((some v15 : Option (Int32)))) fun (v20 : Int32) =>
            some (v20, I18, A19))))) else (some ((-1000002), I, A))) = some (r, I1, A1) := hf
  refine lv_aload_n hx hb dX3_year_0 rfl (lv_at hl 0 rfl) ?_
  obtain ⟨v1, h1, hf⟩ := ob1_e hf
  refine g_vR (ov := some (.int v1)) (D := D) (Sc := mS) (adc := ad) (Ic := I) (Ac := A) (Rc := nR) (Gc := nG) (As := []) (rest := []) (b := ad 99) (C := RX3) ⟨hx, hb, hml, hown, hts⟩ (m_isNone_met l D ad I A  v1 h1) (g_cwV 0 hts (lw_V q1446 q1448 qs53 q82 q1449) rfl rfl m_isNone_ds ⟨Nat.le_trans (Nat.le_of_ble_eq_true rfl) hRf, Nat.le_trans (Nat.le_of_ble_eq_true rfl) hRl⟩) (g_recv hK hW mO rfl) hK hW hcs rfl hl.1 rfl (Nat.le_of_ble_eq_true rfl) dX3_year_1 ?_
  refine lv_if_eq (tgt := 10) hx hb dX3_year_4 (by decide) (fun c2 => ?_) (fun c2 => ?_)
  · rw [if_pos c2] at hf
    refine lv_iload_n hx hb dX3_year_10 rfl (lv_at hl 1 rfl) ?_
    refine lv_i2l (v := a0.toInt64) hx hb dX3_year_11 rfl ?_
    refine lv_lconst (v := 0) hx hb dX3_year_12 (by decide) ?_
    refine lv_ldc2 (v := 60) hx hb hown (hts _ q1544) dX3_year_13 ?_
    obtain ⟨v3, h3, hf⟩ := ob1_e hf
    refine g_sR (ov := some (.int v3)) (D := D) (Sc := nS) (adc := ad) (Ic := (fun _ => 0)) (Ac := (fun _ _ => 0)) (Rc := nR) (Gc := nG) (As := [.long a0.toInt64, .long 0, .long 60]) (rest := []) ⟨hx, hb, hml, hown, hts⟩ (m_in_met l D ad a0.toInt64 0 60 v3 h3) (va_cwS 3 hts (lw_S q1294 q1295 q82 q1296) rfl rfl rfl m_in_ds.2 ⟨Nat.le_trans (Nat.le_of_ble_eq_true rfl) hRf, Nat.le_trans (Nat.le_of_ble_eq_true rfl) hRl⟩) hK WH_nil hcs rfl hl.1 rfl (Nat.le_of_ble_eq_true rfl) dX3_year_16 ?_
    refine lv_if_eq (tgt := 44) hx hb dX3_year_19 (by decide) (fun c4 => ?_) (fun c4 => ?_)
    · rw [if_pos c4] at hf
      refine lv_ldc (v := (-1000001)) hx hb hown (hts _ q1298) dX3_year_44 ?_
      obtain ⟨rfl, rfl, rfl⟩ := so3 hf
      exact W.iret hx hb hr (fun t ht _ => ⟨rfl, by rw [ht]; exact hW, hS.F ht⟩) hS.2.2 dX3_year_46
    · rw [if_neg c4] at hf
      refine lv_iload_n hx hb dX3_year_22 rfl (lv_at hl 2 rfl) ?_
      refine lv_i2l (v := a1.toInt64) hx hb dX3_year_23 rfl ?_
      refine lv_lconst (v := 1) hx hb dX3_year_24 (by decide) ?_
      refine lv_ldc2 (v := 999999) hx hb hown (hts _ q1565) dX3_year_25 ?_
      obtain ⟨v5, h5, hf⟩ := ob1_e hf
      refine g_sR (ov := some (.int v5)) (D := D) (Sc := nS) (adc := ad) (Ic := (fun _ => 0)) (Ac := (fun _ _ => 0)) (Rc := nR) (Gc := nG) (As := [.long a1.toInt64, .long 1, .long 999999]) (rest := []) ⟨hx, hb, hml, hown, hts⟩ (m_in_met l D ad a1.toInt64 1 999999 v5 h5) (va_cwS 3 hts (lw_S q1294 q1295 q82 q1296) rfl rfl rfl m_in_ds.2 ⟨Nat.le_trans (Nat.le_of_ble_eq_true rfl) hRf, Nat.le_trans (Nat.le_of_ble_eq_true rfl) hRl⟩) hK WH_nil hcs rfl hl.1 rfl (Nat.le_of_ble_eq_true rfl) dX3_year_28 ?_
      refine lv_if_eq (tgt := 44) hx hb dX3_year_31 (by decide) (fun c6 => ?_) (fun c6 => ?_)
      · rw [if_pos c6] at hf
        refine lv_ldc (v := (-1000001)) hx hb hown (hts _ q1298) dX3_year_44 ?_
        obtain ⟨rfl, rfl, rfl⟩ := so3 hf
        exact W.iret hx hb hr (fun t ht _ => ⟨rfl, by rw [ht]; exact hW, hS.F ht⟩) hS.2.2 dX3_year_46
      · rw [if_neg c6] at hf
        refine lv_iload_n hx hb dX3_year_34 rfl (lv_at hl 3 rfl) ?_
        refine lv_i2l (v := a2.toInt64) hx hb dX3_year_35 rfl ?_
        refine lv_lconst (v := 0) hx hb dX3_year_36 (by decide) ?_
        refine lv_lconst (v := 1) hx hb dX3_year_37 (by decide) ?_
        obtain ⟨v7, h7, hf⟩ := ob1_e hf
        refine g_sR (ov := some (.int v7)) (D := D) (Sc := nS) (adc := ad) (Ic := (fun _ => 0)) (Ac := (fun _ _ => 0)) (Rc := nR) (Gc := nG) (As := [.long a2.toInt64, .long 0, .long 1]) (rest := []) ⟨hx, hb, hml, hown, hts⟩ (m_in_met l D ad a2.toInt64 0 1 v7 h7) (va_cwS 3 hts (lw_S q1294 q1295 q82 q1296) rfl rfl rfl m_in_ds.2 ⟨Nat.le_trans (Nat.le_of_ble_eq_true rfl) hRf, Nat.le_trans (Nat.le_of_ble_eq_true rfl) hRl⟩) hK WH_nil hcs rfl hl.1 rfl (Nat.le_of_ble_eq_true rfl) dX3_year_38 ?_
        refine lv_if_ne (tgt := 47) hx hb dX3_year_41 (by decide) (fun c8 => ?_) (fun c8 => ?_)
        · rw [if_neg c8] at hf
          refine lv_aload_n hx hb dX3_year_47 rfl (lv_at hl 0 rfl) ?_
          obtain ⟨I9, A10, h10, hf⟩ := ob2_e hf
          refine g_vW (ov := none) (D := D) (Sc := mS) (adc := ad) (Ic := I) (Ac := A) (Rc := nR) (Gc := nG) (As := []) (rest := []) (Ic1 := I9) (Ac1 := A10) (Rc1 := nR) (Gc1 := nG) (b := ad 99) (C := RX3) ⟨hx, hb, hml, hown, hts⟩ (m_lays_met l D ad hI I A  I9 A10 h10) (g_cwV 0 hts (lw_V q1545 q1547 qs61 q82 q1548) rfl rfl m_lays_ds ⟨Nat.le_trans (Nat.le_of_ble_eq_true rfl) hRf, Nat.le_trans (Nat.le_of_ble_eq_true rfl) hRl⟩) (g_recv hK hW mO rfl) hK hW hS hA hcs rfl hl.1 rfl (Nat.le_of_ble_eq_true rfl) dX3_year_48 (fun H locs hW _ hS => ?_)
          refine lv_iload_n hx hb dX3_year_51 rfl (lv_at hl 2 rfl) ?_
          refine lv_i2l (v := a1.toInt64) hx hb dX3_year_52 rfl ?_
          refine lv_lstore (lv' := [(4, .long a1.toInt64), (0, .ref (ad 99)), (1, .int a0), (2, .int a1), (3, .int a2)]) hx hb dX3_year_53 hl (by decide) rfl (fun ls hl => ?_)
          refine lv_iconst (v := 0) hx hb dX3_year_55 (by decide) ?_
          refine lv_istore (lv' := [(6, .int 0), (4, .long a1.toInt64), (0, .ref (ad 99)), (1, .int a0), (2, .int a1), (3, .int a2)]) hx hb dX3_year_56 hl (by decide) rfl (fun ls hl => ?_)
          obtain ⟨I11, A12, w13, v14, hq14, hf⟩ := ob4_e hf
          refine m_year_L58_w hx hb hml hown hts hK hRf hRl hcs hI a0 a2 I11 A12 w13 v14 (fun H locs ls hW hS hl => ?_) NF I9 A10 a1.toInt64 0 _ _ ls hq14 hW hS (lv_sub hl [2, 3, 5, 1, 0] rfl)
          refine lv_iconst (v := 0) hx hb dX3_year_148 (by decide) ?_
          refine lv_istore (lv' := [(6, .int 0), (0, .ref (ad 99)), (3, .int a2)]) hx hb dX3_year_149 hl (by decide) rfl (fun ls hl => ?_)
          refine lv_iconst (v := 0) hx hb dX3_year_151 (by decide) ?_
          refine lv_istore (lv' := [(7, .int 0), (6, .int 0), (0, .ref (ad 99)), (3, .int a2)]) hx hb dX3_year_152 hl (by decide) rfl (fun ls hl => ?_)
          refine lv_iconst (v := 0) hx hb dX3_year_154 (by decide) ?_
          refine lv_istore (lv' := [(8, .int 0), (7, .int 0), (6, .int 0), (0, .ref (ad 99)), (3, .int a2)]) hx hb dX3_year_155 hl (by decide) rfl (fun ls hl => ?_)
          obtain ⟨v15, v16, v17, hq17, hf⟩ := ob3_e hf
          refine m_year_L157_w hx hb hml hown hts hK hRf hRl hcs I11 A12 a2 hW v15 v16 v17 (fun ls hl => ?_) NF 0 0 0 ls hq17 (lv_sub hl [3, 4, 2, 1, 0] rfl)
          refine lv_aload_n hx hb dX3_year_236 rfl (lv_at hl 0 rfl) ?_
          obtain ⟨I18, A19, h19, hf⟩ := ob2_e hf
          refine g_vW (ov := none) (D := D) (Sc := mS) (adc := ad) (Ic := I11) (Ac := A12) (Rc := nR) (Gc := nG) (As := []) (rest := []) (Ic1 := I18) (Ac1 := A19) (Rc1 := nR) (Gc1 := nG) (b := ad 99) (C := RX3) ⟨hx, hb, hml, hown, hts⟩ (m_putsBack_met l D ad hI I11 A12  I18 A19 h19) (g_cwV 0 hts (lw_V q1553 q1555 qs63 q82 q1556) rfl rfl m_putsBack_ds ⟨Nat.le_trans (Nat.le_of_ble_eq_true rfl) hRf, Nat.le_trans (Nat.le_of_ble_eq_true rfl) hRl⟩) (g_recv hK hW mO rfl) hK hW hS hA hcs rfl hl.1 rfl (Nat.le_of_ble_eq_true rfl) dX3_year_237 (fun H locs hW _ hS => ?_)
          refine lv_iload_n hx hb dX3_year_240 rfl (lv_at hl 1 rfl) ?_
          obtain ⟨v20, hm20, hf⟩ := ob1_e hf
          refine w_cutL (nL := 9) (L := []) (pcj := 251) (st := [.int v20]) (fun ls hl => ?_) (fun K20 => ?_)
          · obtain ⟨rfl, rfl, rfl⟩ := so3 hf
            exact W.iret hx hb hr (fun t ht _ => ⟨rfl, by rw [ht]; exact hW, hS.F ht⟩) hS.2.2 dX3_year_251
          · refine lv_if_ne (tgt := 249) hx hb dX3_year_241 (by decide) (fun c21 => ?_) (fun c21 => ?_)
            · rw [if_neg c21] at hm20
              refine lv_iload hx hb dX3_year_249 (lv_at hl 2 rfl) ?_
              obtain rfl := so1 hm20
              exact K20 ls (lv_sub hl [] rfl)
            · rw [if_pos c21] at hm20
              refine lv_iload hx hb dX3_year_244 (lv_at hl 3 rfl) ?_
              refine lv_goto (tgt := 251) hx hb dX3_year_246 (by decide) ?_
              obtain rfl := so1 hm20
              exact K20 ls (lv_sub hl [] rfl)
        · rw [if_pos c8] at hf
          refine lv_ldc (v := (-1000001)) hx hb hown (hts _ q1298) dX3_year_44 ?_
          obtain ⟨rfl, rfl, rfl⟩ := so3 hf
          exact W.iret hx hb hr (fun t ht _ => ⟨rfl, by rw [ht]; exact hW, hS.F ht⟩) hS.2.2 dX3_year_46
  · rw [if_neg c2] at hf
    refine lv_ldc (v := (-1000002)) hx hb hown (hts _ q1391) dX3_year_7 ?_
    obtain ⟨rfl, rfl, rfl⟩ := so3 hf
    exact W.iret hx hb hr (fun t ht _ => ⟨rfl, by rw [ht]; exact hW, hS.F ht⟩) hS.2.2 dX3_year_9
theorem m_year_ds : yX3_year.cls = RX3 ∧ yX3_year.cls ≠ "java/lang/invoke/MethodHandle" ∧ yX3_year.cls ≠ "java/lang/invoke/VarHandle" ∧ (parseMethodDescriptor yX3_year.desc).map (fun d => d.parameters.length) = some 3 := by decide +kernel
/-! image -/
def m_image_L25 (u1 : Int32) : Nat → (Nat → Int32) → (Nat → Nat → Int32) → Int32 → Option ((Nat → Int32) × (Nat → Nat → Int32) × Int32)
  | 0, _, _, _ => none
  | n + 1, I, A, x2 =>
    if 73 ≤ x2 then (some (I, A, x2)) else (ob1 (ldO (A 0) 2044 x2) fun (v2 : Int32) =>
      ob1 (stO (A 0) 2044 ((73 * (u1 + 1)) + x2) v2) fun (f3 : Nat → Int32) =>
      m_image_L25 u1 n I (va_up A 0 f3) (x2 + 1))
set_option maxRecDepth 100000 in
set_option maxHeartbeats 4000000 in
theorem m_image_L25_w {p : Program} {l : Launch} {e : Env} {R0 : Room} {s : State} {m : MethodId} {args : Array Value} {below : List Frame} {meth : Method} {c : Code} {cells slots : Nat} {Q : State → Prop} {D : dd_} {ad : Nat → Nat} (hx : p.tables.exec = Jvm.exec) (hb : c.code = cX3_image) (hml : c.maxLocals = 3) (hown : s.vm.findClass RX3 = some m.cls) (hts : ∀ w ∈ lw_all, w.before args s = true) (hK : Kx D s) (hRf : 2 ≤ R0.frames) (hRl : 41 ≤ R0.locals) (hcs : cells ≤ R0.cells ∧ slots ≤ R0.slots) (hI : Inj mS ad) (u1 : Int32) (I9 : (Nat → Int32)) (A9 : (Nat → Nat → Int32)) (y2 : Int32) (KX : ∀ (H : Heap) (locs : List Loc) (ls : Array Slot), WH D mS ad I9 A9 nR nG H → va_S (frS mS ad) s.heap H locs → lv_has ls 3 [(0, .ref (ad 99)), (1, .int u1)] → W p l e R0 s m args below meth c H locs cells slots Q (F0 m 56 ls [])) : ∀ (n : Nat) (I : (Nat → Int32)) (A : (Nat → Nat → Int32)) (x2 : Int32) (H : Heap) (locs : List Loc) (ls : Array Slot), m_image_L25 u1 n I A x2 = some (I9, A9, y2) → WH D mS ad I A nR nG H → va_S (frS mS ad) s.heap H locs → lv_has ls 3 [(0, .ref (ad 99)), (1, .int u1), (2, .int x2)] → W p l e R0 s m args below meth c H locs cells slots Q (F0 m 25 ls []) := by
  intro n
  have hA : ∀ i ∈ idxS mS, frS mS ad (ad i) := fun i hi => ⟨i, hi, rfl⟩
  induction n with
  | zero =>
    intro I A x2 H locs ls hf
    exact nomatch (show (none : Option ((Nat → Int32) × (Nat → Nat → Int32) × Int32)) = some (I9, A9, y2) from hf)
  | succ n ih =>
    intro I A x2 H locs ls hf hW hS hl
    have hf : (if 73 ≤ x2 then (some (I, A, x2)) else (ob1 (ldO (A 0) 2044 x2) fun (v2 : Int32) =>
          ob1 (stO (A 0) 2044 ((73 * (u1 + 1)) + x2) v2) fun (f3 : Nat → Int32) =>
          m_image_L25 u1 n I (va_up A 0 f3) (x2 + 1))) = some (I9, A9, y2) := hf
    refine lv_iload_n hx hb dX3_image_25 rfl (lv_at hl 2 rfl) ?_
    refine lv_bipush (v := 73) hx hb dX3_image_26 (by decide) ?_
    refine lv_icmp_ge (tgt := 56) hx hb dX3_image_28 (by decide) (fun c1 => ?_) (fun c1 => ?_)
    · rw [if_pos c1] at hf
      obtain ⟨rfl, rfl, rfl⟩ := so3 hf
      exact KX _ _ ls hW hS (lv_sub hl [0, 1] rfl)
    · rw [if_neg c1] at hf
      refine lv_aload_n hx hb dX3_image_31 rfl (lv_at hl 0 rfl) ?_
      refine g_get (v := .ref (ad 0)) hx hb hts hown hK hW mO in_X3 rfl 0 (by decide) q1212 rfl rfl dX3_image_32 ?_
      refine lv_bipush (v := 73) hx hb dX3_image_35 (by decide) ?_
      refine lv_iload_n hx hb dX3_image_37 rfl (lv_at hl 1 rfl) ?_
      refine lv_iconst (v := 1) hx hb dX3_image_38 (by decide) ?_
      refine lv_iadd hx hb dX3_image_39 ?_
      refine lv_imul hx hb dX3_image_40 ?_
      refine lv_iload_n hx hb dX3_image_41 rfl (lv_at hl 2 rfl) ?_
      refine lv_iadd hx hb dX3_image_42 ?_
      refine lv_aload_n hx hb dX3_image_43 rfl (lv_at hl 0 rfl) ?_
      refine g_get (v := .ref (ad 0)) hx hb hts hown hK hW mO in_X3 rfl 0 (by decide) q1212 rfl rfl dX3_image_44 ?_
      refine lv_iload_n hx hb dX3_image_47 rfl (lv_at hl 2 rfl) ?_
      obtain ⟨v2, hv2, hf⟩ := ob1_e hf
      refine g_iald hx hb hK hW mA0 hv2 dX3_image_48 ?_
      obtain ⟨f3, hf3, hf⟩ := ob1_e hf
      refine g_iast hx hb hK mwf hI hA hW hS mA0 hf3 dX3_image_49 (fun H locs hW hS => ?_)
      refine lv_iinc (v := x2 + 1) (lv' := [(2, .int (x2 + 1)), (0, .ref (ad 99)), (1, .int u1)]) hx hb dX3_image_50 hl (k := 2) rfl (by rfl) (by decide) rfl (fun ls hl => ?_)
      refine lv_goto (tgt := 25) hx hb dX3_image_53 (by decide) ?_
      exact ih I (va_up A 0 f3) (x2 + 1) _ _ ls hf hW hS (lv_sub hl [1, 2, 0] rfl)
def m_image (I : Nat → Int32) (A : Nat → Nat → Int32) (a0 : Int32) : Option (Int32 × (Nat → Int32) × (Nat → Nat → Int32)) :=
  ob1 (m_in a0.toInt64 0 1) fun (v1 : Int32) =>
  if v1 = 0 then (some ((-1000001), I, A)) else (ob1 (m_isNone I A ) fun (v3 : Int32) =>
    if v3 = 0 then (ob3 (m_image_L25 a0 NF I A 0) fun (I5 : Nat → Int32) (A6 : Nat → Nat → Int32) (v7 : Int32) =>
      ob1 (stO (A6 2) 2 a0 (vp_nar .boolean 1)) fun (f8 : Nat → Int32) =>
      some (1, I5, va_up A6 2 f8)) else (some ((-1000002), I, A)))
set_option maxRecDepth 100000 in
set_option maxHeartbeats 4000000 in
theorem m_image_met (l : Launch) (D : dd_) (ad : Nat → Nat) (hI : Inj mS ad) (I : Nat → Int32) (A : Nat → Nat → Int32) (a0 : Int32) (r : Int32) (I1 : (Nat → Int32)) (A1 : (Nat → Nat → Int32)) (hf : m_image I A a0 = some (r, I1, A1)) : Met l yX3_image (ws_ yX3_image cX3_image 3 (some .int)) ({ frames := 2, cells := 0, slots := 0, locals := 41 }) (PcW D mS ad I A nR nG [.ref (ad 99), .int a0]) (QcW D mS ad I1 A1 nR nG (some (.int r))) 0 0 (frS mS ad) := by
  refine Met.ofW (cc := cX3_image) (maxL := 3) (ret := (some .int)) (by decide) rfl ?_
  intro p e s m args below meth c s₁ B hml hv
  obtain ⟨rfl, hK, hW⟩ := hv
  have hx := B.exec
  have hb := B.bytes
  have hr := B.returns
  have hts := atoms_spec (ws := (ws_ yX3_image cX3_image 3 (some .int))) B.pre
  have hts : ∀ w ∈ lw_all, w.before _ s = true := fun w h => hts w (List.mem_cons_of_mem _ h)
  have hown : s.vm.findClass RX3 = some m.cls := findClass_of_methodNamed B.named
  have hlocks := B.notSynchronized
  have hRf : 2 ≤ (headSpec (ws_ yX3_image cX3_image 3 (some .int)) ({ frames := 2, cells := 0, slots := 0, locals := 41 })).room.frames := Nat.le_refl _
  have hRl : 41 ≤ (headSpec (ws_ yX3_image cX3_image 3 (some .int)) ({ frames := 2, cells := 0, slots := 0, locals := 41 })).room.locals := Nat.le_refl _
  have hcs : 0 ≤ (headSpec (ws_ yX3_image cX3_image 3 (some .int)) ({ frames := 2, cells := 0, slots := 0, locals := 41 })).room.cells ∧ 0 ≤ (headSpec (ws_ yX3_image cX3_image 3 (some .int)) ({ frames := 2, cells := 0, slots := 0, locals := 41 })).room.slots := ⟨Nat.zero_le _, Nat.zero_le _⟩
  have hA : ∀ i ∈ idxS mS, frS mS ad (ad i) := fun i hi => ⟨i, hi, rfl⟩
  have hS : va_S (frS mS ad) s.heap s.heap [] := va_S.rf
  have hl := lv_entry ([.ref (ad 99), .int a0]) (n := 3) (Nat.le_of_ble_eq_true rfl)
  rw [lg_entry_eq]
  generalize (lg_sl ([.ref (ad 99), .int a0]) ++ List.replicate (3 - (lg_sl ([.ref (ad 99), .int a0])).length) Slot.unset).toArray = ls at hl ⊢
  have hl : lv_has ls 3 [(0, .ref (ad 99)), (1, .int a0)] := hl
  have hf : (ob1 (m_in a0.toInt64 0 1) fun (v1 : Int32) =>
    if v1 = 0 then (some ((-1000001), I, A)) else (ob1 (m_isNone I A ) fun (v3 : Int32) =>
      if v3 = 0 then (ob3 (m_image_L25 a0 NF I A 0) fun (I5 : Nat → Int32) (A6 : Nat → Nat → Int32) (v7 : Int32) =>
        ob1 (stO (A6 2) 2 a0 (vp_nar .boolean 1)) fun (f8 : Nat → Int32) =>
        some (1, I5, va_up A6 2 f8)) else (some ((-1000002), I, A)))) = some (r, I1, A1) := hf
  refine lv_iload_n hx hb dX3_image_0 rfl (lv_at hl 1 rfl) ?_
  refine lv_i2l (v := a0.toInt64) hx hb dX3_image_1 rfl ?_
  refine lv_lconst (v := 0) hx hb dX3_image_2 (by decide) ?_
  refine lv_lconst (v := 1) hx hb dX3_image_3 (by decide) ?_
  obtain ⟨v1, h1, hf⟩ := ob1_e hf
  refine g_sR (ov := some (.int v1)) (D := D) (Sc := nS) (adc := ad) (Ic := (fun _ => 0)) (Ac := (fun _ _ => 0)) (Rc := nR) (Gc := nG) (As := [.long a0.toInt64, .long 0, .long 1]) (rest := []) ⟨hx, hb, hml, hown, hts⟩ (m_in_met l D ad a0.toInt64 0 1 v1 h1) (va_cwS 3 hts (lw_S q1294 q1295 q82 q1296) rfl rfl rfl m_in_ds.2 ⟨Nat.le_trans (Nat.le_of_ble_eq_true rfl) hRf, Nat.le_trans (Nat.le_of_ble_eq_true rfl) hRl⟩) hK WH_nil hcs rfl hl.1 rfl (Nat.le_of_ble_eq_true rfl) dX3_image_4 ?_
  refine lv_if_ne (tgt := 13) hx hb dX3_image_7 (by decide) (fun c2 => ?_) (fun c2 => ?_)
  · rw [if_neg c2] at hf
    refine lv_aload_n hx hb dX3_image_13 rfl (lv_at hl 0 rfl) ?_
    obtain ⟨v3, h3, hf⟩ := ob1_e hf
    refine g_vR (ov := some (.int v3)) (D := D) (Sc := mS) (adc := ad) (Ic := I) (Ac := A) (Rc := nR) (Gc := nG) (As := []) (rest := []) (b := ad 99) (C := RX3) ⟨hx, hb, hml, hown, hts⟩ (m_isNone_met l D ad I A  v3 h3) (g_cwV 0 hts (lw_V q1446 q1448 qs53 q82 q1449) rfl rfl m_isNone_ds ⟨Nat.le_trans (Nat.le_of_ble_eq_true rfl) hRf, Nat.le_trans (Nat.le_of_ble_eq_true rfl) hRl⟩) (g_recv hK hW mO rfl) hK hW hcs rfl hl.1 rfl (Nat.le_of_ble_eq_true rfl) dX3_image_14 ?_
    refine lv_if_eq (tgt := 23) hx hb dX3_image_17 (by decide) (fun c4 => ?_) (fun c4 => ?_)
    · rw [if_pos c4] at hf
      refine lv_iconst (v := 0) hx hb dX3_image_23 (by decide) ?_
      refine lv_istore_n (lv' := [(2, .int 0), (0, .ref (ad 99)), (1, .int a0)]) hx hb dX3_image_24 rfl hl (by decide) rfl (fun ls hl => ?_)
      obtain ⟨I5, A6, v7, hq7, hf⟩ := ob3_e hf
      refine m_image_L25_w hx hb hml hown hts hK hRf hRl hcs hI a0 I5 A6 v7 (fun H locs ls hW hS hl => ?_) NF I A 0 _ _ ls hq7 hW hS (lv_sub hl [1, 2, 0] rfl)
      refine lv_aload_n hx hb dX3_image_56 rfl (lv_at hl 0 rfl) ?_
      refine g_get (v := .ref (ad 2)) hx hb hts hown hK hW mO in_X3 rfl 2 (by decide) q1214 rfl rfl dX3_image_57 ?_
      refine lv_iload_n hx hb dX3_image_60 rfl (lv_at hl 1 rfl) ?_
      refine lv_iconst (v := 1) hx hb dX3_image_61 (by decide) ?_
      obtain ⟨f8, hf8, hf⟩ := ob1_e hf
      refine g_zast hx hb hK mwf hI hA hW hS mA2 hf8 dX3_image_62 (fun H locs hW hS => ?_)
      refine lv_iconst (v := 1) hx hb dX3_image_63 (by decide) ?_
      obtain ⟨rfl, rfl, rfl⟩ := so3 hf
      exact W.iret hx hb hr (fun t ht _ => ⟨rfl, by rw [ht]; exact hW, hS.F ht⟩) hS.2.2 dX3_image_64
    · rw [if_neg c4] at hf
      refine lv_ldc (v := (-1000002)) hx hb hown (hts _ q1391) dX3_image_20 ?_
      obtain ⟨rfl, rfl, rfl⟩ := so3 hf
      exact W.iret hx hb hr (fun t ht _ => ⟨rfl, by rw [ht]; exact hW, hS.F ht⟩) hS.2.2 dX3_image_22
  · rw [if_pos c2] at hf
    refine lv_ldc (v := (-1000001)) hx hb hown (hts _ q1298) dX3_image_10 ?_
    obtain ⟨rfl, rfl, rfl⟩ := so3 hf
    exact W.iret hx hb hr (fun t ht _ => ⟨rfl, by rw [ht]; exact hW, hS.F ht⟩) hS.2.2 dX3_image_12
theorem m_image_ds : yX3_image.cls = RX3 ∧ yX3_image.cls ≠ "java/lang/invoke/MethodHandle" ∧ yX3_image.cls ≠ "java/lang/invoke/VarHandle" ∧ (parseMethodDescriptor yX3_image.desc).map (fun d => d.parameters.length) = some 1 := by decide +kernel
/-! restore -/
def m_restore_L27 (u1 : Int32) : Nat → (Nat → Int32) → (Nat → Nat → Int32) → Int32 → Option ((Nat → Int32) × (Nat → Nat → Int32) × Int32)
  | 0, _, _, _ => none
  | n + 1, I, A, x2 =>
    if 73 ≤ x2 then (some (I, A, x2)) else (ob1 (ldO (A 0) 2044 ((73 * (u1 + 1)) + x2)) fun (v2 : Int32) =>
      ob1 (stO (A 0) 2044 x2 v2) fun (f3 : Nat → Int32) =>
      m_restore_L27 u1 n I (va_up A 0 f3) (x2 + 1))
set_option maxRecDepth 100000 in
set_option maxHeartbeats 4000000 in
theorem m_restore_L27_w {p : Program} {l : Launch} {e : Env} {R0 : Room} {s : State} {m : MethodId} {args : Array Value} {below : List Frame} {meth : Method} {c : Code} {cells slots : Nat} {Q : State → Prop} {D : dd_} {ad : Nat → Nat} (hx : p.tables.exec = Jvm.exec) (hb : c.code = cX3_restore) (hml : c.maxLocals = 3) (hown : s.vm.findClass RX3 = some m.cls) (hts : ∀ w ∈ lw_all, w.before args s = true) (hK : Kx D s) (hRf : 2 ≤ R0.frames) (hRl : 41 ≤ R0.locals) (hcs : cells ≤ R0.cells ∧ slots ≤ R0.slots) (hI : Inj mS ad) (u1 : Int32) (I9 : (Nat → Int32)) (A9 : (Nat → Nat → Int32)) (y2 : Int32) (KX : ∀ (H : Heap) (locs : List Loc) (ls : Array Slot), WH D mS ad I9 A9 nR nG H → va_S (frS mS ad) s.heap H locs → lv_has ls 3 [(0, .ref (ad 99))] → W p l e R0 s m args below meth c H locs cells slots Q (F0 m 58 ls [])) : ∀ (n : Nat) (I : (Nat → Int32)) (A : (Nat → Nat → Int32)) (x2 : Int32) (H : Heap) (locs : List Loc) (ls : Array Slot), m_restore_L27 u1 n I A x2 = some (I9, A9, y2) → WH D mS ad I A nR nG H → va_S (frS mS ad) s.heap H locs → lv_has ls 3 [(0, .ref (ad 99)), (1, .int u1), (2, .int x2)] → W p l e R0 s m args below meth c H locs cells slots Q (F0 m 27 ls []) := by
  intro n
  have hA : ∀ i ∈ idxS mS, frS mS ad (ad i) := fun i hi => ⟨i, hi, rfl⟩
  induction n with
  | zero =>
    intro I A x2 H locs ls hf
    exact nomatch (show (none : Option ((Nat → Int32) × (Nat → Nat → Int32) × Int32)) = some (I9, A9, y2) from hf)
  | succ n ih =>
    intro I A x2 H locs ls hf hW hS hl
    have hf : (if 73 ≤ x2 then (some (I, A, x2)) else (ob1 (ldO (A 0) 2044 ((73 * (u1 + 1)) + x2)) fun (v2 : Int32) =>
          ob1 (stO (A 0) 2044 x2 v2) fun (f3 : Nat → Int32) =>
          m_restore_L27 u1 n I (va_up A 0 f3) (x2 + 1))) = some (I9, A9, y2) := hf
    refine lv_iload_n hx hb dX3_restore_27 rfl (lv_at hl 2 rfl) ?_
    refine lv_bipush (v := 73) hx hb dX3_restore_28 (by decide) ?_
    refine lv_icmp_ge (tgt := 58) hx hb dX3_restore_30 (by decide) (fun c1 => ?_) (fun c1 => ?_)
    · rw [if_pos c1] at hf
      obtain ⟨rfl, rfl, rfl⟩ := so3 hf
      exact KX _ _ ls hW hS (lv_sub hl [0] rfl)
    · rw [if_neg c1] at hf
      refine lv_aload_n hx hb dX3_restore_33 rfl (lv_at hl 0 rfl) ?_
      refine g_get (v := .ref (ad 0)) hx hb hts hown hK hW mO in_X3 rfl 0 (by decide) q1212 rfl rfl dX3_restore_34 ?_
      refine lv_iload_n hx hb dX3_restore_37 rfl (lv_at hl 2 rfl) ?_
      refine lv_aload_n hx hb dX3_restore_38 rfl (lv_at hl 0 rfl) ?_
      refine g_get (v := .ref (ad 0)) hx hb hts hown hK hW mO in_X3 rfl 0 (by decide) q1212 rfl rfl dX3_restore_39 ?_
      refine lv_bipush (v := 73) hx hb dX3_restore_42 (by decide) ?_
      refine lv_iload_n hx hb dX3_restore_44 rfl (lv_at hl 1 rfl) ?_
      refine lv_iconst (v := 1) hx hb dX3_restore_45 (by decide) ?_
      refine lv_iadd hx hb dX3_restore_46 ?_
      refine lv_imul hx hb dX3_restore_47 ?_
      refine lv_iload_n hx hb dX3_restore_48 rfl (lv_at hl 2 rfl) ?_
      refine lv_iadd hx hb dX3_restore_49 ?_
      obtain ⟨v2, hv2, hf⟩ := ob1_e hf
      refine g_iald hx hb hK hW mA0 hv2 dX3_restore_50 ?_
      obtain ⟨f3, hf3, hf⟩ := ob1_e hf
      refine g_iast hx hb hK mwf hI hA hW hS mA0 hf3 dX3_restore_51 (fun H locs hW hS => ?_)
      refine lv_iinc (v := x2 + 1) (lv' := [(2, .int (x2 + 1)), (0, .ref (ad 99)), (1, .int u1)]) hx hb dX3_restore_52 hl (k := 2) rfl (by rfl) (by decide) rfl (fun ls hl => ?_)
      refine lv_goto (tgt := 27) hx hb dX3_restore_55 (by decide) ?_
      exact ih I (va_up A 0 f3) (x2 + 1) _ _ ls hf hW hS (lv_sub hl [1, 2, 0] rfl)
def m_restore (I : Nat → Int32) (A : Nat → Nat → Int32) (a0 : Int32) : Option (Int32 × (Nat → Int32) × (Nat → Nat → Int32)) :=
  ob1 (m_in a0.toInt64 0 1) fun (v1 : Int32) =>
  if v1 = 0 then (some ((-1000001), I, A)) else (ob1 (ldO (A 2) 2 a0) fun (v3 : Int32) =>
    if v3 = 0 then (some ((-1000002), I, A)) else (ob3 (m_restore_L27 a0 NF I A 0) fun (I5 : Nat → Int32) (A6 : Nat → Nat → Int32) (v7 : Int32) =>
      some (1, upd I5 1 0, A6)))
set_option maxRecDepth 100000 in
set_option maxHeartbeats 4000000 in
theorem m_restore_met (l : Launch) (D : dd_) (ad : Nat → Nat) (hI : Inj mS ad) (I : Nat → Int32) (A : Nat → Nat → Int32) (a0 : Int32) (r : Int32) (I1 : (Nat → Int32)) (A1 : (Nat → Nat → Int32)) (hf : m_restore I A a0 = some (r, I1, A1)) : Met l yX3_restore (ws_ yX3_restore cX3_restore 3 (some .int)) ({ frames := 2, cells := 0, slots := 0, locals := 41 }) (PcW D mS ad I A nR nG [.ref (ad 99), .int a0]) (QcW D mS ad I1 A1 nR nG (some (.int r))) 0 0 (frS mS ad) := by
  refine Met.ofW (cc := cX3_restore) (maxL := 3) (ret := (some .int)) (by decide) rfl ?_
  intro p e s m args below meth c s₁ B hml hv
  obtain ⟨rfl, hK, hW⟩ := hv
  have hx := B.exec
  have hb := B.bytes
  have hr := B.returns
  have hts := atoms_spec (ws := (ws_ yX3_restore cX3_restore 3 (some .int))) B.pre
  have hts : ∀ w ∈ lw_all, w.before _ s = true := fun w h => hts w (List.mem_cons_of_mem _ h)
  have hown : s.vm.findClass RX3 = some m.cls := findClass_of_methodNamed B.named
  have hlocks := B.notSynchronized
  have hRf : 2 ≤ (headSpec (ws_ yX3_restore cX3_restore 3 (some .int)) ({ frames := 2, cells := 0, slots := 0, locals := 41 })).room.frames := Nat.le_refl _
  have hRl : 41 ≤ (headSpec (ws_ yX3_restore cX3_restore 3 (some .int)) ({ frames := 2, cells := 0, slots := 0, locals := 41 })).room.locals := Nat.le_refl _
  have hcs : 0 ≤ (headSpec (ws_ yX3_restore cX3_restore 3 (some .int)) ({ frames := 2, cells := 0, slots := 0, locals := 41 })).room.cells ∧ 0 ≤ (headSpec (ws_ yX3_restore cX3_restore 3 (some .int)) ({ frames := 2, cells := 0, slots := 0, locals := 41 })).room.slots := ⟨Nat.zero_le _, Nat.zero_le _⟩
  have hA : ∀ i ∈ idxS mS, frS mS ad (ad i) := fun i hi => ⟨i, hi, rfl⟩
  have hS : va_S (frS mS ad) s.heap s.heap [] := va_S.rf
  have hl := lv_entry ([.ref (ad 99), .int a0]) (n := 3) (Nat.le_of_ble_eq_true rfl)
  rw [lg_entry_eq]
  generalize (lg_sl ([.ref (ad 99), .int a0]) ++ List.replicate (3 - (lg_sl ([.ref (ad 99), .int a0])).length) Slot.unset).toArray = ls at hl ⊢
  have hl : lv_has ls 3 [(0, .ref (ad 99)), (1, .int a0)] := hl
  have hf : (ob1 (m_in a0.toInt64 0 1) fun (v1 : Int32) =>
    if v1 = 0 then (some ((-1000001), I, A)) else (ob1 (ldO (A 2) 2 a0) fun (v3 : Int32) =>
      if v3 = 0 then (some ((-1000002), I, A)) else (ob3 (m_restore_L27 a0 NF I A 0) fun (I5 : Nat → Int32) (A6 : Nat → Nat → Int32) (v7 : Int32) =>
        some (1, upd I5 1 0, A6)))) = some (r, I1, A1) := hf
  refine lv_iload_n hx hb dX3_restore_0 rfl (lv_at hl 1 rfl) ?_
  refine lv_i2l (v := a0.toInt64) hx hb dX3_restore_1 rfl ?_
  refine lv_lconst (v := 0) hx hb dX3_restore_2 (by decide) ?_
  refine lv_lconst (v := 1) hx hb dX3_restore_3 (by decide) ?_
  obtain ⟨v1, h1, hf⟩ := ob1_e hf
  refine g_sR (ov := some (.int v1)) (D := D) (Sc := nS) (adc := ad) (Ic := (fun _ => 0)) (Ac := (fun _ _ => 0)) (Rc := nR) (Gc := nG) (As := [.long a0.toInt64, .long 0, .long 1]) (rest := []) ⟨hx, hb, hml, hown, hts⟩ (m_in_met l D ad a0.toInt64 0 1 v1 h1) (va_cwS 3 hts (lw_S q1294 q1295 q82 q1296) rfl rfl rfl m_in_ds.2 ⟨Nat.le_trans (Nat.le_of_ble_eq_true rfl) hRf, Nat.le_trans (Nat.le_of_ble_eq_true rfl) hRl⟩) hK WH_nil hcs rfl hl.1 rfl (Nat.le_of_ble_eq_true rfl) dX3_restore_4 ?_
  refine lv_if_ne (tgt := 13) hx hb dX3_restore_7 (by decide) (fun c2 => ?_) (fun c2 => ?_)
  · rw [if_neg c2] at hf
    refine lv_aload_n hx hb dX3_restore_13 rfl (lv_at hl 0 rfl) ?_
    refine g_get (v := .ref (ad 2)) hx hb hts hown hK hW mO in_X3 rfl 2 (by decide) q1214 rfl rfl dX3_restore_14 ?_
    refine lv_iload_n hx hb dX3_restore_17 rfl (lv_at hl 1 rfl) ?_
    obtain ⟨v3, hv3, hf⟩ := ob1_e hf
    refine g_zald hx hb hK hW mA2 hv3 dX3_restore_18 ?_
    refine lv_if_ne (tgt := 25) hx hb dX3_restore_19 (by decide) (fun c4 => ?_) (fun c4 => ?_)
    · rw [if_neg c4] at hf
      refine lv_iconst (v := 0) hx hb dX3_restore_25 (by decide) ?_
      refine lv_istore_n (lv' := [(2, .int 0), (0, .ref (ad 99)), (1, .int a0)]) hx hb dX3_restore_26 rfl hl (by decide) rfl (fun ls hl => ?_)
      obtain ⟨I5, A6, v7, hq7, hf⟩ := ob3_e hf
      refine m_restore_L27_w hx hb hml hown hts hK hRf hRl hcs hI a0 I5 A6 v7 (fun H locs ls hW hS hl => ?_) NF I A 0 _ _ ls hq7 hW hS (lv_sub hl [1, 2, 0] rfl)
      refine lv_aload_n hx hb dX3_restore_58 rfl (lv_at hl 0 rfl) ?_
      refine lv_iconst (v := 0) hx hb dX3_restore_59 (by decide) ?_
      refine g_putI hx hb hts hown hK mwf hI hA hW hS mO in_X3 tyX3 tyX3_ok nmX3 rfl 1 1 (by decide) rfl q1213 rfl rfl (by decide +kernel) dX3_restore_60 (fun H locs hW hS => ?_)
      refine lv_iconst (v := 1) hx hb dX3_restore_63 (by decide) ?_
      obtain ⟨rfl, rfl, rfl⟩ := so3 hf
      exact W.iret hx hb hr (fun t ht _ => ⟨rfl, by rw [ht]; exact hW, hS.F ht⟩) hS.2.2 dX3_restore_64
    · rw [if_pos c4] at hf
      refine lv_ldc (v := (-1000002)) hx hb hown (hts _ q1391) dX3_restore_22 ?_
      obtain ⟨rfl, rfl, rfl⟩ := so3 hf
      exact W.iret hx hb hr (fun t ht _ => ⟨rfl, by rw [ht]; exact hW, hS.F ht⟩) hS.2.2 dX3_restore_24
  · rw [if_pos c2] at hf
    refine lv_ldc (v := (-1000001)) hx hb hown (hts _ q1298) dX3_restore_10 ?_
    obtain ⟨rfl, rfl, rfl⟩ := so3 hf
    exact W.iret hx hb hr (fun t ht _ => ⟨rfl, by rw [ht]; exact hW, hS.F ht⟩) hS.2.2 dX3_restore_12
theorem m_restore_ds : yX3_restore.cls = RX3 ∧ yX3_restore.cls ≠ "java/lang/invoke/MethodHandle" ∧ yX3_restore.cls ≠ "java/lang/invoke/VarHandle" ∧ (parseMethodDescriptor yX3_restore.desc).map (fun d => d.parameters.length) = some 1 := by decide +kernel
/-! kind -/
def m_kind (I : Nat → Int32) (A : Nat → Nat → Int32) (a0 : Int32) : Option (Int32) :=
  ob1 (m_isPerson I A a0) fun (v1 : Int32) =>
  ob1 (if v1 = 0 then ((some (-1000001) : Option (Int32))) else (ob1 (ldO (A 0) 2044 (10 + a0)) fun (v4 : Int32) =>
      (some v4 : Option (Int32)))) fun (v2 : Int32) =>
  some v2
set_option maxRecDepth 100000 in
set_option maxHeartbeats 4000000 in
theorem m_kind_met (l : Launch) (D : dd_) (ad : Nat → Nat) (I : Nat → Int32) (A : Nat → Nat → Int32) (a0 : Int32) (r : Int32) (hf : m_kind I A a0 = some r) : Met l yX3_kind (ws_ yX3_kind cX3_kind 2 (some .int)) ({ frames := 3, cells := 0, slots := 0, locals := 62 }) (PcW D mS ad I A nR nG [.ref (ad 99), .int a0]) (QcR (some (.int r))) 0 0 (fun _ => False) := by
  refine Met.ofW (cc := cX3_kind) (maxL := 2) (ret := (some .int)) (by decide) rfl ?_
  intro p e s m args below meth c s₁ B hml hv
  obtain ⟨rfl, hK, hW⟩ := hv
  have hx := B.exec
  have hb := B.bytes
  have hr := B.returns
  have hts := atoms_spec (ws := (ws_ yX3_kind cX3_kind 2 (some .int))) B.pre
  have hts : ∀ w ∈ lw_all, w.before _ s = true := fun w h => hts w (List.mem_cons_of_mem _ h)
  have hown : s.vm.findClass RX3 = some m.cls := findClass_of_methodNamed B.named
  have hlocks := B.notSynchronized
  have hRf : 3 ≤ (headSpec (ws_ yX3_kind cX3_kind 2 (some .int)) ({ frames := 3, cells := 0, slots := 0, locals := 62 })).room.frames := Nat.le_refl _
  have hRl : 62 ≤ (headSpec (ws_ yX3_kind cX3_kind 2 (some .int)) ({ frames := 3, cells := 0, slots := 0, locals := 62 })).room.locals := Nat.le_refl _
  have hcs : 0 ≤ (headSpec (ws_ yX3_kind cX3_kind 2 (some .int)) ({ frames := 3, cells := 0, slots := 0, locals := 62 })).room.cells ∧ 0 ≤ (headSpec (ws_ yX3_kind cX3_kind 2 (some .int)) ({ frames := 3, cells := 0, slots := 0, locals := 62 })).room.slots := ⟨Nat.zero_le _, Nat.zero_le _⟩
  have hl := lv_entry ([.ref (ad 99), .int a0]) (n := 2) (Nat.le_of_ble_eq_true rfl)
  rw [lg_entry_eq]
  generalize (lg_sl ([.ref (ad 99), .int a0]) ++ List.replicate (2 - (lg_sl ([.ref (ad 99), .int a0])).length) Slot.unset).toArray = ls at hl ⊢
  have hl : lv_has ls 2 [(0, .ref (ad 99)), (1, .int a0)] := hl
  have hf : (ob1 (m_isPerson I A a0) fun (v1 : Int32) =>
    ob1 (if v1 = 0 then ((some (-1000001) : Option (Int32))) else (ob1 (ldO (A 0) 2044 (10 + a0)) fun (v4 : Int32) =>
        (some v4 : Option (Int32)))) fun (v2 : Int32) =>
    some v2) = some r := hf
  refine lv_aload_n hx hb dX3_kind_0 rfl (lv_at hl 0 rfl) ?_
  refine lv_iload_n hx hb dX3_kind_1 rfl (lv_at hl 1 rfl) ?_
  obtain ⟨v1, h1, hf⟩ := ob1_e hf
  refine g_vR (ov := some (.int v1)) (D := D) (Sc := mS) (adc := ad) (Ic := I) (Ac := A) (Rc := nR) (Gc := nG) (As := [.int a0]) (rest := []) (b := ad 99) (C := RX3) ⟨hx, hb, hml, hown, hts⟩ (m_isPerson_met l D ad I A a0 v1 h1) (g_cwV 1 hts (lw_V q1396 q1398 qs46 q82 q1399) rfl rfl m_isPerson_ds ⟨Nat.le_trans (Nat.le_of_ble_eq_true rfl) hRf, Nat.le_trans (Nat.le_of_ble_eq_true rfl) hRl⟩) (g_recv hK hW mO rfl) hK hW hcs rfl hl.1 rfl (Nat.le_of_ble_eq_true rfl) dX3_kind_2 ?_
  obtain ⟨v2, hm2, hf⟩ := ob1_e hf
  refine w_cutL (nL := 2) (L := []) (pcj := 22) (st := [.int v2]) (fun ls hl => ?_) (fun K2 => ?_)
  · obtain rfl := so1 hf
    exact W.iret hx hb hr (fun t ht _ => ⟨rfl, ht⟩) (fun q hq => by cases hq) dX3_kind_22
  · refine lv_if_eq (tgt := 20) hx hb dX3_kind_5 (by decide) (fun c3 => ?_) (fun c3 => ?_)
    · rw [if_pos c3] at hm2
      refine lv_ldc (v := (-1000001)) hx hb hown (hts _ q1298) dX3_kind_20 ?_
      obtain rfl := so1 hm2
      exact K2 ls (lv_sub hl [] rfl)
    · rw [if_neg c3] at hm2
      refine lv_aload_n hx hb dX3_kind_8 rfl (lv_at hl 0 rfl) ?_
      refine g_get (v := .ref (ad 0)) hx hb hts hown hK hW mO in_X3 rfl 0 (by decide) q1212 rfl rfl dX3_kind_9 ?_
      refine lv_bipush (v := 10) hx hb dX3_kind_12 (by decide) ?_
      refine lv_iload_n hx hb dX3_kind_14 rfl (lv_at hl 1 rfl) ?_
      refine lv_iadd hx hb dX3_kind_15 ?_
      obtain ⟨v4, hv4, hm2⟩ := ob1_e hm2
      refine g_iald hx hb hK hW mA0 hv4 dX3_kind_16 ?_
      refine lv_goto (tgt := 22) hx hb dX3_kind_17 (by decide) ?_
      obtain rfl := so1 hm2
      exact K2 ls (lv_sub hl [] rfl)
theorem m_kind_ds : yX3_kind.cls = RX3 ∧ yX3_kind.cls ≠ "java/lang/invoke/MethodHandle" ∧ yX3_kind.cls ≠ "java/lang/invoke/VarHandle" ∧ (parseMethodDescriptor yX3_kind.desc).map (fun d => d.parameters.length) = some 1 := by decide +kernel
/-! isOf -/
def m_isOf (a0 : Int32) (a1 : Int32) : Option (Int32) :=
  ob1 (if a1 = 0 then ((some 1 : Option (Int32))) else (if a1 = a0 then ((some 1 : Option (Int32))) else (if a1 = 1 then (if a0 ≤ 3 then ((some 1 : Option (Int32))) else (if a1 = 4 then (if a0 = 5 then ((some 1 : Option (Int32))) else ((some 0 : Option (Int32)))) else ((some 0 : Option (Int32))))) else (if a1 = 4 then (if a0 = 5 then ((some 1 : Option (Int32))) else ((some 0 : Option (Int32)))) else ((some 0 : Option (Int32))))))) fun (v1 : Int32) =>
  zO v1
set_option maxRecDepth 100000 in
set_option maxHeartbeats 4000000 in
theorem m_isOf_met (l : Launch) (D : dd_) (ad : Nat → Nat) (a0 : Int32) (a1 : Int32) (r : Int32) (hf : m_isOf a0 a1 = some r) : Met l yX3_isOf (ws_ yX3_isOf cX3_isOf 2 (some .boolean)) ({ frames := 1, cells := 0, slots := 0, locals := 16 }) (PcW D nS ad (fun _ => 0) (fun _ _ => 0) nR nG [.int a0, .int a1]) (QcR (some (.int r))) 0 0 (fun _ => False) := by
  refine Met.ofW (cc := cX3_isOf) (maxL := 2) (ret := (some .boolean)) (by decide) rfl ?_
  intro p e s m args below meth c s₁ B hml hv
  obtain ⟨rfl, hK, hW⟩ := hv
  have hx := B.exec
  have hb := B.bytes
  have hr := B.returns
  have hts := atoms_spec (ws := (ws_ yX3_isOf cX3_isOf 2 (some .boolean))) B.pre
  have hts : ∀ w ∈ lw_all, w.before _ s = true := fun w h => hts w (List.mem_cons_of_mem _ h)
  have hown : s.vm.findClass RX3 = some m.cls := findClass_of_methodNamed B.named
  have hlocks := B.notSynchronized
  have hRf : 1 ≤ (headSpec (ws_ yX3_isOf cX3_isOf 2 (some .boolean)) ({ frames := 1, cells := 0, slots := 0, locals := 16 })).room.frames := Nat.le_refl _
  have hRl : 16 ≤ (headSpec (ws_ yX3_isOf cX3_isOf 2 (some .boolean)) ({ frames := 1, cells := 0, slots := 0, locals := 16 })).room.locals := Nat.le_refl _
  have hcs : 0 ≤ (headSpec (ws_ yX3_isOf cX3_isOf 2 (some .boolean)) ({ frames := 1, cells := 0, slots := 0, locals := 16 })).room.cells ∧ 0 ≤ (headSpec (ws_ yX3_isOf cX3_isOf 2 (some .boolean)) ({ frames := 1, cells := 0, slots := 0, locals := 16 })).room.slots := ⟨Nat.zero_le _, Nat.zero_le _⟩
  have hl := lv_entry ([.int a0, .int a1]) (n := 2) (Nat.le_of_ble_eq_true rfl)
  rw [lg_entry_eq]
  generalize (lg_sl ([.int a0, .int a1]) ++ List.replicate (2 - (lg_sl ([.int a0, .int a1])).length) Slot.unset).toArray = ls at hl ⊢
  have hl : lv_has ls 2 [(0, .int a0), (1, .int a1)] := hl
  have hf : (ob1 (if a1 = 0 then ((some 1 : Option (Int32))) else (if a1 = a0 then ((some 1 : Option (Int32))) else (if a1 = 1 then (if a0 ≤ 3 then ((some 1 : Option (Int32))) else (if a1 = 4 then (if a0 = 5 then ((some 1 : Option (Int32))) else ((some 0 : Option (Int32)))) else ((some 0 : Option (Int32))))) else (if a1 = 4 then (if a0 = 5 then ((some 1 : Option (Int32))) else ((some 0 : Option (Int32)))) else ((some 0 : Option (Int32))))))) fun (v1 : Int32) =>
    zO v1) = some r := hf
  refine lv_iload_n hx hb dX3_isOf_0 rfl (lv_at hl 1 rfl) ?_
  obtain ⟨v1, hm1, hf⟩ := ob1_e hf
  refine w_cutL (nL := 2) (L := []) (pcj := 34) (st := [.int v1]) (fun ls hl => ?_) (fun K1 => ?_)
  · obtain ⟨hz, rfl⟩ := zO_e hf
    exact W.zret hx hb hr (nar_z hz) (fun t ht _ => ⟨rfl, ht⟩) (fun q hq => by cases hq) dX3_isOf_34
  · refine lv_if_eq (tgt := 29) hx hb dX3_isOf_1 (by decide) (fun c2 => ?_) (fun c2 => ?_)
    · rw [if_pos c2] at hm1
      refine lv_iconst (v := 1) hx hb dX3_isOf_29 (by decide) ?_
      refine lv_goto (tgt := 34) hx hb dX3_isOf_30 (by decide) ?_
      obtain rfl := so1 hm1
      exact K1 ls (lv_sub hl [] rfl)
    · rw [if_neg c2] at hm1
      refine lv_iload_n hx hb dX3_isOf_4 rfl (lv_at hl 1 rfl) ?_
      refine lv_iload_n hx hb dX3_isOf_5 rfl (lv_at hl 0 rfl) ?_
      refine lv_icmp_eq (tgt := 29) hx hb dX3_isOf_6 (by decide) (fun c3 => ?_) (fun c3 => ?_)
      · rw [if_pos c3] at hm1
        refine lv_iconst (v := 1) hx hb dX3_isOf_29 (by decide) ?_
        refine lv_goto (tgt := 34) hx hb dX3_isOf_30 (by decide) ?_
        obtain rfl := so1 hm1
        exact K1 ls (lv_sub hl [] rfl)
      · rw [if_neg c3] at hm1
        refine lv_iload_n hx hb dX3_isOf_9 rfl (lv_at hl 1 rfl) ?_
        refine lv_iconst (v := 1) hx hb dX3_isOf_10 (by decide) ?_
        refine lv_icmp_ne (tgt := 19) hx hb dX3_isOf_11 (by decide) (fun c4 => ?_) (fun c4 => ?_)
        · rw [if_neg c4] at hm1
          refine lv_iload_n hx hb dX3_isOf_19 rfl (lv_at hl 1 rfl) ?_
          refine lv_iconst (v := 4) hx hb dX3_isOf_20 (by decide) ?_
          refine lv_icmp_ne (tgt := 33) hx hb dX3_isOf_21 (by decide) (fun c5 => ?_) (fun c5 => ?_)
          · rw [if_neg c5] at hm1
            refine lv_iconst (v := 0) hx hb dX3_isOf_33 (by decide) ?_
            obtain rfl := so1 hm1
            exact K1 ls (lv_sub hl [] rfl)
          · rw [if_pos c5] at hm1
            refine lv_iload_n hx hb dX3_isOf_24 rfl (lv_at hl 0 rfl) ?_
            refine lv_iconst (v := 5) hx hb dX3_isOf_25 (by decide) ?_
            refine lv_icmp_ne (tgt := 33) hx hb dX3_isOf_26 (by decide) (fun c6 => ?_) (fun c6 => ?_)
            · rw [if_neg c6] at hm1
              refine lv_iconst (v := 0) hx hb dX3_isOf_33 (by decide) ?_
              obtain rfl := so1 hm1
              exact K1 ls (lv_sub hl [] rfl)
            · rw [if_pos c6] at hm1
              refine lv_iconst (v := 1) hx hb dX3_isOf_29 (by decide) ?_
              refine lv_goto (tgt := 34) hx hb dX3_isOf_30 (by decide) ?_
              obtain rfl := so1 hm1
              exact K1 ls (lv_sub hl [] rfl)
        · rw [if_pos c4] at hm1
          refine lv_iload_n hx hb dX3_isOf_14 rfl (lv_at hl 0 rfl) ?_
          refine lv_iconst (v := 3) hx hb dX3_isOf_15 (by decide) ?_
          refine lv_icmp_le (tgt := 29) hx hb dX3_isOf_16 (by decide) (fun c7 => ?_) (fun c7 => ?_)
          · rw [if_pos c7] at hm1
            refine lv_iconst (v := 1) hx hb dX3_isOf_29 (by decide) ?_
            refine lv_goto (tgt := 34) hx hb dX3_isOf_30 (by decide) ?_
            obtain rfl := so1 hm1
            exact K1 ls (lv_sub hl [] rfl)
          · rw [if_neg c7] at hm1
            refine lv_iload_n hx hb dX3_isOf_19 rfl (lv_at hl 1 rfl) ?_
            refine lv_iconst (v := 4) hx hb dX3_isOf_20 (by decide) ?_
            refine lv_icmp_ne (tgt := 33) hx hb dX3_isOf_21 (by decide) (fun c8 => ?_) (fun c8 => ?_)
            · rw [if_neg c8] at hm1
              refine lv_iconst (v := 0) hx hb dX3_isOf_33 (by decide) ?_
              obtain rfl := so1 hm1
              exact K1 ls (lv_sub hl [] rfl)
            · rw [if_pos c8] at hm1
              refine lv_iload_n hx hb dX3_isOf_24 rfl (lv_at hl 0 rfl) ?_
              refine lv_iconst (v := 5) hx hb dX3_isOf_25 (by decide) ?_
              refine lv_icmp_ne (tgt := 33) hx hb dX3_isOf_26 (by decide) (fun c9 => ?_) (fun c9 => ?_)
              · rw [if_neg c9] at hm1
                refine lv_iconst (v := 0) hx hb dX3_isOf_33 (by decide) ?_
                obtain rfl := so1 hm1
                exact K1 ls (lv_sub hl [] rfl)
              · rw [if_pos c9] at hm1
                refine lv_iconst (v := 1) hx hb dX3_isOf_29 (by decide) ?_
                refine lv_goto (tgt := 34) hx hb dX3_isOf_30 (by decide) ?_
                obtain rfl := so1 hm1
                exact K1 ls (lv_sub hl [] rfl)
theorem m_isOf_ds : yX3_isOf.cls = RX3 ∧ yX3_isOf.cls ≠ "java/lang/invoke/MethodHandle" ∧ yX3_isOf.cls ≠ "java/lang/invoke/VarHandle" ∧ (parseMethodDescriptor yX3_isOf.desc).map (fun d => d.parameters.length) = some 2 := by decide +kernel
/-! as -/
def m_as (I : Nat → Int32) (A : Nat → Nat → Int32) (a0 : Int32) (a1 : Int32) : Option (Int32 × (Nat → Int32) × (Nat → Nat → Int32)) :=
  ob1 (m_isPerson I A a0) fun (v1 : Int32) =>
  if v1 = 0 then (some ((-1000001), I, A)) else (ob1 (m_in a1.toInt64 0 5) fun (v3 : Int32) =>
    if v3 = 0 then (some ((-1000001), I, A)) else (ob1 (ldO (A 0) 2044 (10 + a0)) fun (v5 : Int32) =>
      ob1 (m_isOf v5 a1) fun (v6 : Int32) =>
      ob3 (if v6 = 0 then (ob3 (m_found I A 3) fun (v11 : Int32) (I12 : Nat → Int32) (A13 : Nat → Nat → Int32) =>
          (some (v11, I12, A13) : Option (Int32 × (Nat → Int32) × (Nat → Nat → Int32)))) else (ob3 (m_well I A a0) fun (v14 : Int32) (I15 : Nat → Int32) (A16 : Nat → Nat → Int32) =>
          (some (v14, I15, A16) : Option (Int32 × (Nat → Int32) × (Nat → Nat → Int32))))) fun (v7 : Int32) (I8 : Nat → Int32) (A9 : Nat → Nat → Int32) =>
      some (v7, I8, A9)))
set_option maxRecDepth 100000 in
set_option maxHeartbeats 4000000 in
theorem m_as_met (l : Launch) (D : dd_) (ad : Nat → Nat) (hI : Inj mS ad) (I : Nat → Int32) (A : Nat → Nat → Int32) (a0 : Int32) (a1 : Int32) (r : Int32) (I1 : (Nat → Int32)) (A1 : (Nat → Nat → Int32)) (hf : m_as I A a0 a1 = some (r, I1, A1)) : Met l yX3_as (ws_ yX3_as cX3_as 3 (some .int)) ({ frames := 3, cells := 0, slots := 0, locals := 62 }) (PcW D mS ad I A nR nG [.ref (ad 99), .int a0, .int a1]) (QcW D mS ad I1 A1 nR nG (some (.int r))) 0 0 (frS mS ad) := by
  refine Met.ofW (cc := cX3_as) (maxL := 3) (ret := (some .int)) (by decide) rfl ?_
  intro p e s m args below meth c s₁ B hml hv
  obtain ⟨rfl, hK, hW⟩ := hv
  have hx := B.exec
  have hb := B.bytes
  have hr := B.returns
  have hts := atoms_spec (ws := (ws_ yX3_as cX3_as 3 (some .int))) B.pre
  have hts : ∀ w ∈ lw_all, w.before _ s = true := fun w h => hts w (List.mem_cons_of_mem _ h)
  have hown : s.vm.findClass RX3 = some m.cls := findClass_of_methodNamed B.named
  have hlocks := B.notSynchronized
  have hRf : 3 ≤ (headSpec (ws_ yX3_as cX3_as 3 (some .int)) ({ frames := 3, cells := 0, slots := 0, locals := 62 })).room.frames := Nat.le_refl _
  have hRl : 62 ≤ (headSpec (ws_ yX3_as cX3_as 3 (some .int)) ({ frames := 3, cells := 0, slots := 0, locals := 62 })).room.locals := Nat.le_refl _
  have hcs : 0 ≤ (headSpec (ws_ yX3_as cX3_as 3 (some .int)) ({ frames := 3, cells := 0, slots := 0, locals := 62 })).room.cells ∧ 0 ≤ (headSpec (ws_ yX3_as cX3_as 3 (some .int)) ({ frames := 3, cells := 0, slots := 0, locals := 62 })).room.slots := ⟨Nat.zero_le _, Nat.zero_le _⟩
  have hA : ∀ i ∈ idxS mS, frS mS ad (ad i) := fun i hi => ⟨i, hi, rfl⟩
  have hS : va_S (frS mS ad) s.heap s.heap [] := va_S.rf
  have hl := lv_entry ([.ref (ad 99), .int a0, .int a1]) (n := 3) (Nat.le_of_ble_eq_true rfl)
  rw [lg_entry_eq]
  generalize (lg_sl ([.ref (ad 99), .int a0, .int a1]) ++ List.replicate (3 - (lg_sl ([.ref (ad 99), .int a0, .int a1])).length) Slot.unset).toArray = ls at hl ⊢
  have hl : lv_has ls 3 [(0, .ref (ad 99)), (1, .int a0), (2, .int a1)] := hl
  have hf : (ob1 (m_isPerson I A a0) fun (v1 : Int32) =>
    if v1 = 0 then (some ((-1000001), I, A)) else (ob1 (m_in a1.toInt64 0 5) fun (v3 : Int32) =>
      if v3 = 0 then (some ((-1000001), I, A)) else (ob1 (ldO (A 0) 2044 (10 + a0)) fun (v5 : Int32) =>
        ob1 (m_isOf v5 a1) fun (v6 : Int32) =>
        ob3 (if v6 = 0 then (ob3 (m_found I A 3) fun (v11 : Int32) (I12 : Nat → Int32) (A13 : Nat → Nat → Int32) =>
            (some (v11, I12, A13) : Option (Int32 × (Nat → Int32) × (Nat → Nat → Int32)))) else (ob3 (m_well I A a0) fun (v14 : Int32) (I15 : Nat → Int32) (A16 : Nat → Nat → Int32) =>
            (some (v14, I15, A16) : Option (Int32 × (Nat → Int32) × (Nat → Nat → Int32))))) fun (v7 : Int32) (I8 : Nat → Int32) (A9 : Nat → Nat → Int32) =>
        some (v7, I8, A9)))) = some (r, I1, A1) := hf
  refine lv_aload_n hx hb dX3_as_0 rfl (lv_at hl 0 rfl) ?_
  refine lv_iload_n hx hb dX3_as_1 rfl (lv_at hl 1 rfl) ?_
  obtain ⟨v1, h1, hf⟩ := ob1_e hf
  refine g_vR (ov := some (.int v1)) (D := D) (Sc := mS) (adc := ad) (Ic := I) (Ac := A) (Rc := nR) (Gc := nG) (As := [.int a0]) (rest := []) (b := ad 99) (C := RX3) ⟨hx, hb, hml, hown, hts⟩ (m_isPerson_met l D ad I A a0 v1 h1) (g_cwV 1 hts (lw_V q1396 q1398 qs46 q82 q1399) rfl rfl m_isPerson_ds ⟨Nat.le_trans (Nat.le_of_ble_eq_true rfl) hRf, Nat.le_trans (Nat.le_of_ble_eq_true rfl) hRl⟩) (g_recv hK hW mO rfl) hK hW hcs rfl hl.1 rfl (Nat.le_of_ble_eq_true rfl) dX3_as_2 ?_
  refine lv_if_eq (tgt := 20) hx hb dX3_as_5 (by decide) (fun c2 => ?_) (fun c2 => ?_)
  · rw [if_pos c2] at hf
    refine lv_ldc (v := (-1000001)) hx hb hown (hts _ q1298) dX3_as_20 ?_
    obtain ⟨rfl, rfl, rfl⟩ := so3 hf
    exact W.iret hx hb hr (fun t ht _ => ⟨rfl, by rw [ht]; exact hW, hS.F ht⟩) hS.2.2 dX3_as_22
  · rw [if_neg c2] at hf
    refine lv_iload_n hx hb dX3_as_8 rfl (lv_at hl 2 rfl) ?_
    refine lv_i2l (v := a1.toInt64) hx hb dX3_as_9 rfl ?_
    refine lv_lconst (v := 0) hx hb dX3_as_10 (by decide) ?_
    refine lv_ldc2 (v := 5) hx hb hown (hts _ q1404) dX3_as_11 ?_
    obtain ⟨v3, h3, hf⟩ := ob1_e hf
    refine g_sR (ov := some (.int v3)) (D := D) (Sc := nS) (adc := ad) (Ic := (fun _ => 0)) (Ac := (fun _ _ => 0)) (Rc := nR) (Gc := nG) (As := [.long a1.toInt64, .long 0, .long 5]) (rest := []) ⟨hx, hb, hml, hown, hts⟩ (m_in_met l D ad a1.toInt64 0 5 v3 h3) (va_cwS 3 hts (lw_S q1294 q1295 q82 q1296) rfl rfl rfl m_in_ds.2 ⟨Nat.le_trans (Nat.le_of_ble_eq_true rfl) hRf, Nat.le_trans (Nat.le_of_ble_eq_true rfl) hRl⟩) hK WH_nil hcs rfl hl.1 rfl (Nat.le_of_ble_eq_true rfl) dX3_as_14 ?_
    refine lv_if_ne (tgt := 23) hx hb dX3_as_17 (by decide) (fun c4 => ?_) (fun c4 => ?_)
    · rw [if_neg c4] at hf
      refine lv_aload_n hx hb dX3_as_23 rfl (lv_at hl 0 rfl) ?_
      refine g_get (v := .ref (ad 0)) hx hb hts hown hK hW mO in_X3 rfl 0 (by decide) q1212 rfl rfl dX3_as_24 ?_
      refine lv_bipush (v := 10) hx hb dX3_as_27 (by decide) ?_
      refine lv_iload_n hx hb dX3_as_29 rfl (lv_at hl 1 rfl) ?_
      refine lv_iadd hx hb dX3_as_30 ?_
      obtain ⟨v5, hv5, hf⟩ := ob1_e hf
      refine g_iald hx hb hK hW mA0 hv5 dX3_as_31 ?_
      refine lv_iload_n hx hb dX3_as_32 rfl (lv_at hl 2 rfl) ?_
      obtain ⟨v6, h6, hf⟩ := ob1_e hf
      refine g_sR (ov := some (.int v6)) (D := D) (Sc := nS) (adc := ad) (Ic := (fun _ => 0)) (Ac := (fun _ _ => 0)) (Rc := nR) (Gc := nG) (As := [.int v5, .int a1]) (rest := []) ⟨hx, hb, hml, hown, hts⟩ (m_isOf_met l D ad v5 a1 v6 h6) (va_cwS 2 hts (lw_S q1584 q1585 q82 q1586) rfl rfl rfl m_isOf_ds.2 ⟨Nat.le_trans (Nat.le_of_ble_eq_true rfl) hRf, Nat.le_trans (Nat.le_of_ble_eq_true rfl) hRl⟩) hK WH_nil hcs rfl hl.1 rfl (Nat.le_of_ble_eq_true rfl) dX3_as_33 ?_
      obtain ⟨v7, I8, A9, hm9, hf⟩ := ob3_e hf
      refine w_cutH (A0 := frS mS ad) (H0 := s.heap) (X := WH D mS ad I8 A9 nR nG) (nL := 3) (L := []) (pcj := 52) (st := [.int v7]) (fun H locs ls hW hS hl => ?_) (fun K9 => ?_)
      · obtain ⟨rfl, rfl, rfl⟩ := so3 hf
        exact W.iret hx hb hr (fun t ht _ => ⟨rfl, by rw [ht]; exact hW, hS.F ht⟩) hS.2.2 dX3_as_52
      · refine lv_if_eq (tgt := 47) hx hb dX3_as_36 (by decide) (fun c10 => ?_) (fun c10 => ?_)
        · rw [if_pos c10] at hm9
          refine lv_aload_n hx hb dX3_as_47 rfl (lv_at hl 0 rfl) ?_
          refine lv_iconst (v := 3) hx hb dX3_as_48 (by decide) ?_
          obtain ⟨v11, I12, A13, h13, hm9⟩ := ob3_e hm9
          refine g_vW (ov := some (.int v11)) (D := D) (Sc := mS) (adc := ad) (Ic := I) (Ac := A) (Rc := nR) (Gc := nG) (As := [.int 3]) (rest := []) (Ic1 := I12) (Ac1 := A13) (Rc1 := nR) (Gc1 := nG) (b := ad 99) (C := RX3) ⟨hx, hb, hml, hown, hts⟩ (m_found_met l D ad hI I A 3 v11 I12 A13 h13) (g_cwV 1 hts (lw_V q1299 q1301 qs33 q82 q1302) rfl rfl m_found_ds ⟨Nat.le_trans (Nat.le_of_ble_eq_true rfl) hRf, Nat.le_trans (Nat.le_of_ble_eq_true rfl) hRl⟩) (g_recv hK hW mO rfl) hK hW hS hA hcs rfl hl.1 rfl (Nat.le_of_ble_eq_true rfl) dX3_as_49 (fun H locs hW _ hS => ?_)
          obtain ⟨rfl, rfl, rfl⟩ := so3 hm9
          exact K9 _ _ ls hW hS (lv_sub hl [] rfl)
        · rw [if_neg c10] at hm9
          refine lv_aload_n hx hb dX3_as_39 rfl (lv_at hl 0 rfl) ?_
          refine lv_iload_n hx hb dX3_as_40 rfl (lv_at hl 1 rfl) ?_
          obtain ⟨v14, I15, A16, h16, hm9⟩ := ob3_e hm9
          refine g_vW (ov := some (.int v14)) (D := D) (Sc := mS) (adc := ad) (Ic := I) (Ac := A) (Rc := nR) (Gc := nG) (As := [.int a0]) (rest := []) (Ic1 := I15) (Ac1 := A16) (Rc1 := nR) (Gc1 := nG) (b := ad 99) (C := RX3) ⟨hx, hb, hml, hown, hts⟩ (m_well_met l D ad hI I A a0 v14 I15 A16 h16) (g_cwV 1 hts (lw_V q1304 q1306 qs34 q82 q1307) rfl rfl m_well_ds ⟨Nat.le_trans (Nat.le_of_ble_eq_true rfl) hRf, Nat.le_trans (Nat.le_of_ble_eq_true rfl) hRl⟩) (g_recv hK hW mO rfl) hK hW hS hA hcs rfl hl.1 rfl (Nat.le_of_ble_eq_true rfl) dX3_as_41 (fun H locs hW _ hS => ?_)
          refine lv_goto (tgt := 52) hx hb dX3_as_44 (by decide) ?_
          obtain ⟨rfl, rfl, rfl⟩ := so3 hm9
          exact K9 _ _ ls hW hS (lv_sub hl [] rfl)
    · rw [if_pos c4] at hf
      refine lv_ldc (v := (-1000001)) hx hb hown (hts _ q1298) dX3_as_20 ?_
      obtain ⟨rfl, rfl, rfl⟩ := so3 hf
      exact W.iret hx hb hr (fun t ht _ => ⟨rfl, by rw [ht]; exact hW, hS.F ht⟩) hS.2.2 dX3_as_22
theorem m_as_ds : yX3_as.cls = RX3 ∧ yX3_as.cls ≠ "java/lang/invoke/MethodHandle" ∧ yX3_as.cls ≠ "java/lang/invoke/VarHandle" ∧ (parseMethodDescriptor yX3_as.desc).map (fun d => d.parameters.length) = some 2 := by decide +kernel
/-! leaves -/
def m_leaves (I : Nat → Int32) (A : Nat → Nat → Int32) (a0 : Int32) : Option ((Nat → Int32) × (Nat → Nat → Int32)) :=
  ob2 (if 16 ≤ (I 23) then ((some (I, A) : Option ((Nat → Int32) × (Nat → Nat → Int32)))) else (ob1 (stO (A 22) 16 (I 23) a0) fun (f4 : Nat → Int32) =>
      (some (upd I 23 ((I 23) + 1), va_up A 22 f4) : Option ((Nat → Int32) × (Nat → Nat → Int32))))) fun (I1 : Nat → Int32) (A2 : Nat → Nat → Int32) =>
  some (I1, A2)
set_option maxRecDepth 100000 in
set_option maxHeartbeats 4000000 in
theorem m_leaves_met (l : Launch) (D : dd_) (ad : Nat → Nat) (hI : Inj mS ad) (I : Nat → Int32) (A : Nat → Nat → Int32) (a0 : Int32) (I1 : (Nat → Int32)) (A1 : (Nat → Nat → Int32)) (hf : m_leaves I A a0 = some (I1, A1)) : Met l yX3_leaves (ws_ yX3_leaves cX3_leaves 2 none) ({ frames := 1, cells := 0, slots := 0, locals := 16 }) (PcW D mS ad I A nR nG [.ref (ad 99), .int a0]) (QcW D mS ad I1 A1 nR nG (none)) 0 0 (frS mS ad) := by
  refine Met.ofW (cc := cX3_leaves) (maxL := 2) (ret := none) (by decide) rfl ?_
  intro p e s m args below meth c s₁ B hml hv
  obtain ⟨rfl, hK, hW⟩ := hv
  have hx := B.exec
  have hb := B.bytes
  have hr := B.returns
  have hts := atoms_spec (ws := (ws_ yX3_leaves cX3_leaves 2 none)) B.pre
  have hts : ∀ w ∈ lw_all, w.before _ s = true := fun w h => hts w (List.mem_cons_of_mem _ h)
  have hown : s.vm.findClass RX3 = some m.cls := findClass_of_methodNamed B.named
  have hlocks := B.notSynchronized
  have hRf : 1 ≤ (headSpec (ws_ yX3_leaves cX3_leaves 2 none) ({ frames := 1, cells := 0, slots := 0, locals := 16 })).room.frames := Nat.le_refl _
  have hRl : 16 ≤ (headSpec (ws_ yX3_leaves cX3_leaves 2 none) ({ frames := 1, cells := 0, slots := 0, locals := 16 })).room.locals := Nat.le_refl _
  have hcs : 0 ≤ (headSpec (ws_ yX3_leaves cX3_leaves 2 none) ({ frames := 1, cells := 0, slots := 0, locals := 16 })).room.cells ∧ 0 ≤ (headSpec (ws_ yX3_leaves cX3_leaves 2 none) ({ frames := 1, cells := 0, slots := 0, locals := 16 })).room.slots := ⟨Nat.zero_le _, Nat.zero_le _⟩
  have hA : ∀ i ∈ idxS mS, frS mS ad (ad i) := fun i hi => ⟨i, hi, rfl⟩
  have hS : va_S (frS mS ad) s.heap s.heap [] := va_S.rf
  have hl := lv_entry ([.ref (ad 99), .int a0]) (n := 2) (Nat.le_of_ble_eq_true rfl)
  rw [lg_entry_eq]
  generalize (lg_sl ([.ref (ad 99), .int a0]) ++ List.replicate (2 - (lg_sl ([.ref (ad 99), .int a0])).length) Slot.unset).toArray = ls at hl ⊢
  have hl : lv_has ls 2 [(0, .ref (ad 99)), (1, .int a0)] := hl
  have hf : (ob2 (if 16 ≤ (I 23) then ((some (I, A) : Option ((Nat → Int32) × (Nat → Nat → Int32)))) else (ob1 (stO (A 22) 16 (I 23) a0) fun (f4 : Nat → Int32) =>
        (some (upd I 23 ((I 23) + 1), va_up A 22 f4) : Option ((Nat → Int32) × (Nat → Nat → Int32))))) fun (I1 : Nat → Int32) (A2 : Nat → Nat → Int32) =>
    some (I1, A2)) = some (I1, A1) := hf
  refine lv_aload_n hx hb dX3_leaves_0 rfl (lv_at hl 0 rfl) ?_
  refine g_get (v := .int (I 23)) hx hb hts hown hK hW mO in_X3 rfl 23 (by decide) q1235 rfl rfl dX3_leaves_1 ?_
  refine lv_bipush (v := 16) hx hb dX3_leaves_4 (by decide) ?_
  obtain ⟨I1, A2, hm2, hf⟩ := ob2_e hf
  refine w_cutH (A0 := frS mS ad) (H0 := s.heap) (X := WH D mS ad I1 A2 nR nG) (nL := 2) (L := []) (pcj := 29) (st := []) (fun H locs ls hW hS hl => ?_) (fun K2 => ?_)
  · obtain ⟨rfl, rfl⟩ := so2 hf
    exact W.vret hx hb hr (fun t ht _ => ⟨rfl, by rw [ht]; exact hW, hS.F ht⟩) hS.2.2 dX3_leaves_29
  · refine lv_icmp_ge (tgt := 29) hx hb dX3_leaves_6 (by decide) (fun c3 => ?_) (fun c3 => ?_)
    · rw [if_pos c3] at hm2
      obtain ⟨rfl, rfl⟩ := so2 hm2
      exact K2 _ _ ls hW hS (lv_sub hl [] rfl)
    · rw [if_neg c3] at hm2
      refine lv_aload_n hx hb dX3_leaves_9 rfl (lv_at hl 0 rfl) ?_
      refine g_get (v := .ref (ad 22)) hx hb hts hown hK hW mO in_X3 rfl 22 (by decide) q1234 rfl rfl dX3_leaves_10 ?_
      refine lv_aload_n hx hb dX3_leaves_13 rfl (lv_at hl 0 rfl) ?_
      refine g_get (v := .int (I 23)) hx hb hts hown hK hW mO in_X3 rfl 23 (by decide) q1235 rfl rfl dX3_leaves_14 ?_
      refine lv_iload_n hx hb dX3_leaves_17 rfl (lv_at hl 1 rfl) ?_
      obtain ⟨f4, hf4, hm2⟩ := ob1_e hm2
      refine g_iast hx hb hK mwf hI hA hW hS mA22 hf4 dX3_leaves_18 (fun H locs hW hS => ?_)
      refine lv_aload_n hx hb dX3_leaves_19 rfl (lv_at hl 0 rfl) ?_
      refine lv_dup hx hb dX3_leaves_20 rfl ?_
      refine g_get (v := .int (I 23)) hx hb hts hown hK hW mO in_X3 rfl 23 (by decide) q1235 rfl rfl dX3_leaves_21 ?_
      refine lv_iconst (v := 1) hx hb dX3_leaves_24 (by decide) ?_
      refine lv_iadd hx hb dX3_leaves_25 ?_
      refine g_putI hx hb hts hown hK mwf hI hA hW hS mO in_X3 tyX3 tyX3_ok nmX3 rfl 23 23 (by decide) rfl q1235 rfl rfl (by decide +kernel) dX3_leaves_26 (fun H locs hW hS => ?_)
      obtain ⟨rfl, rfl⟩ := so2 hm2
      exact K2 _ _ ls hW hS (lv_sub hl [] rfl)
theorem m_leaves_ds : yX3_leaves.cls = RX3 ∧ yX3_leaves.cls ≠ "java/lang/invoke/MethodHandle" ∧ yX3_leaves.cls ≠ "java/lang/invoke/VarHandle" ∧ (parseMethodDescriptor yX3_leaves.desc).map (fun d => d.parameters.length) = some 1 := by decide +kernel
/-! bareSize -/
def m_bareSize (I : Nat → Int32) (A : Nat → Nat → Int32) (a0 : Int32) : Option (Int32 × (Nat → Int32) × (Nat → Nat → Int32)) :=
  ob2 (m_leaves I A 10) fun (I1 : Nat → Int32) (A2 : Nat → Nat → Int32) =>
  ob1 (m_loadOf I1 A2 a0) fun (v3 : Int32) =>
  some (v3, I1, A2)
set_option maxRecDepth 100000 in
set_option maxHeartbeats 4000000 in
theorem m_bareSize_met (l : Launch) (D : dd_) (ad : Nat → Nat) (hI : Inj mS ad) (I : Nat → Int32) (A : Nat → Nat → Int32) (a0 : Int32) (r : Int32) (I1 : (Nat → Int32)) (A1 : (Nat → Nat → Int32)) (hf : m_bareSize I A a0 = some (r, I1, A1)) : Met l yX3_bareSize (ws_ yX3_bareSize cX3_bareSize 2 (some .int)) ({ frames := 4, cells := 0, slots := 0, locals := 82 }) (PcW D mS ad I A nR nG [.ref (ad 99), .int a0]) (QcW D mS ad I1 A1 nR nG (some (.int r))) 0 0 (frS mS ad) := by
  refine Met.ofW (cc := cX3_bareSize) (maxL := 2) (ret := (some .int)) (by decide) rfl ?_
  intro p e s m args below meth c s₁ B hml hv
  obtain ⟨rfl, hK, hW⟩ := hv
  have hx := B.exec
  have hb := B.bytes
  have hr := B.returns
  have hts := atoms_spec (ws := (ws_ yX3_bareSize cX3_bareSize 2 (some .int))) B.pre
  have hts : ∀ w ∈ lw_all, w.before _ s = true := fun w h => hts w (List.mem_cons_of_mem _ h)
  have hown : s.vm.findClass RX3 = some m.cls := findClass_of_methodNamed B.named
  have hlocks := B.notSynchronized
  have hRf : 4 ≤ (headSpec (ws_ yX3_bareSize cX3_bareSize 2 (some .int)) ({ frames := 4, cells := 0, slots := 0, locals := 82 })).room.frames := Nat.le_refl _
  have hRl : 82 ≤ (headSpec (ws_ yX3_bareSize cX3_bareSize 2 (some .int)) ({ frames := 4, cells := 0, slots := 0, locals := 82 })).room.locals := Nat.le_refl _
  have hcs : 0 ≤ (headSpec (ws_ yX3_bareSize cX3_bareSize 2 (some .int)) ({ frames := 4, cells := 0, slots := 0, locals := 82 })).room.cells ∧ 0 ≤ (headSpec (ws_ yX3_bareSize cX3_bareSize 2 (some .int)) ({ frames := 4, cells := 0, slots := 0, locals := 82 })).room.slots := ⟨Nat.zero_le _, Nat.zero_le _⟩
  have hA : ∀ i ∈ idxS mS, frS mS ad (ad i) := fun i hi => ⟨i, hi, rfl⟩
  have hS : va_S (frS mS ad) s.heap s.heap [] := va_S.rf
  have hl := lv_entry ([.ref (ad 99), .int a0]) (n := 2) (Nat.le_of_ble_eq_true rfl)
  rw [lg_entry_eq]
  generalize (lg_sl ([.ref (ad 99), .int a0]) ++ List.replicate (2 - (lg_sl ([.ref (ad 99), .int a0])).length) Slot.unset).toArray = ls at hl ⊢
  have hl : lv_has ls 2 [(0, .ref (ad 99)), (1, .int a0)] := hl
  have hf : (ob2 (m_leaves I A 10) fun (I1 : Nat → Int32) (A2 : Nat → Nat → Int32) =>
    ob1 (m_loadOf I1 A2 a0) fun (v3 : Int32) =>
    some (v3, I1, A2)) = some (r, I1, A1) := hf
  refine lv_aload_n hx hb dX3_bareSize_0 rfl (lv_at hl 0 rfl) ?_
  refine lv_bipush (v := 10) hx hb dX3_bareSize_1 (by decide) ?_
  obtain ⟨I1, A2, h2, hf⟩ := ob2_e hf
  refine g_vW (ov := none) (D := D) (Sc := mS) (adc := ad) (Ic := I) (Ac := A) (Rc := nR) (Gc := nG) (As := [.int 10]) (rest := []) (Ic1 := I1) (Ac1 := A2) (Rc1 := nR) (Gc1 := nG) (b := ad 99) (C := RX3) ⟨hx, hb, hml, hown, hts⟩ (m_leaves_met l D ad hI I A 10 I1 A2 h2) (g_cwV 1 hts (lw_V q1595 q1597 qs65 q82 q1598) rfl rfl m_leaves_ds ⟨Nat.le_trans (Nat.le_of_ble_eq_true rfl) hRf, Nat.le_trans (Nat.le_of_ble_eq_true rfl) hRl⟩) (g_recv hK hW mO rfl) hK hW hS hA hcs rfl hl.1 rfl (Nat.le_of_ble_eq_true rfl) dX3_bareSize_3 (fun H locs hW _ hS => ?_)
  refine lv_aload_n hx hb dX3_bareSize_6 rfl (lv_at hl 0 rfl) ?_
  refine lv_iload_n hx hb dX3_bareSize_7 rfl (lv_at hl 1 rfl) ?_
  obtain ⟨v3, h3, hf⟩ := ob1_e hf
  refine g_vR (ov := some (.int v3)) (D := D) (Sc := mS) (adc := ad) (Ic := I1) (Ac := A2) (Rc := nR) (Gc := nG) (As := [.int a0]) (rest := []) (b := ad 99) (C := RX3) ⟨hx, hb, hml, hown, hts⟩ (m_loadOf_met l D ad I1 A2 a0 v3 h3) (g_cwV 1 hts (lw_V q1409 q1411 qs49 q82 q1412) rfl rfl m_loadOf_ds ⟨Nat.le_trans (Nat.le_of_ble_eq_true rfl) hRf, Nat.le_trans (Nat.le_of_ble_eq_true rfl) hRl⟩) (g_recv hK hW mO rfl) hK hW hcs rfl hl.1 rfl (Nat.le_of_ble_eq_true rfl) dX3_bareSize_8 ?_
  obtain ⟨rfl, rfl, rfl⟩ := so3 hf
  exact W.iret hx hb hr (fun t ht _ => ⟨rfl, by rw [ht]; exact hW, hS.F ht⟩) hS.2.2 dX3_bareSize_11
theorem m_bareSize_ds : yX3_bareSize.cls = RX3 ∧ yX3_bareSize.cls ≠ "java/lang/invoke/MethodHandle" ∧ yX3_bareSize.cls ≠ "java/lang/invoke/VarHandle" ∧ (parseMethodDescriptor yX3_bareSize.desc).map (fun d => d.parameters.length) = some 1 := by decide +kernel
/-! bareMark -/
def m_bareMark (I : Nat → Int32) (A : Nat → Nat → Int32) (a0 : Int32) : Option (Int32 × (Nat → Int32) × (Nat → Nat → Int32)) :=
  ob2 (m_leaves I A 20) fun (I1 : Nat → Int32) (A2 : Nat → Nat → Int32) =>
  some (a0, I1, A2)
set_option maxRecDepth 100000 in
set_option maxHeartbeats 4000000 in
theorem m_bareMark_met (l : Launch) (D : dd_) (ad : Nat → Nat) (hI : Inj mS ad) (I : Nat → Int32) (A : Nat → Nat → Int32) (a0 : Int32) (r : Int32) (I1 : (Nat → Int32)) (A1 : (Nat → Nat → Int32)) (hf : m_bareMark I A a0 = some (r, I1, A1)) : Met l yX3_bareMark (ws_ yX3_bareMark cX3_bareMark 2 (some .int)) ({ frames := 2, cells := 0, slots := 0, locals := 37 }) (PcW D mS ad I A nR nG [.ref (ad 99), .int a0]) (QcW D mS ad I1 A1 nR nG (some (.int r))) 0 0 (frS mS ad) := by
  refine Met.ofW (cc := cX3_bareMark) (maxL := 2) (ret := (some .int)) (by decide) rfl ?_
  intro p e s m args below meth c s₁ B hml hv
  obtain ⟨rfl, hK, hW⟩ := hv
  have hx := B.exec
  have hb := B.bytes
  have hr := B.returns
  have hts := atoms_spec (ws := (ws_ yX3_bareMark cX3_bareMark 2 (some .int))) B.pre
  have hts : ∀ w ∈ lw_all, w.before _ s = true := fun w h => hts w (List.mem_cons_of_mem _ h)
  have hown : s.vm.findClass RX3 = some m.cls := findClass_of_methodNamed B.named
  have hlocks := B.notSynchronized
  have hRf : 2 ≤ (headSpec (ws_ yX3_bareMark cX3_bareMark 2 (some .int)) ({ frames := 2, cells := 0, slots := 0, locals := 37 })).room.frames := Nat.le_refl _
  have hRl : 37 ≤ (headSpec (ws_ yX3_bareMark cX3_bareMark 2 (some .int)) ({ frames := 2, cells := 0, slots := 0, locals := 37 })).room.locals := Nat.le_refl _
  have hcs : 0 ≤ (headSpec (ws_ yX3_bareMark cX3_bareMark 2 (some .int)) ({ frames := 2, cells := 0, slots := 0, locals := 37 })).room.cells ∧ 0 ≤ (headSpec (ws_ yX3_bareMark cX3_bareMark 2 (some .int)) ({ frames := 2, cells := 0, slots := 0, locals := 37 })).room.slots := ⟨Nat.zero_le _, Nat.zero_le _⟩
  have hA : ∀ i ∈ idxS mS, frS mS ad (ad i) := fun i hi => ⟨i, hi, rfl⟩
  have hS : va_S (frS mS ad) s.heap s.heap [] := va_S.rf
  have hl := lv_entry ([.ref (ad 99), .int a0]) (n := 2) (Nat.le_of_ble_eq_true rfl)
  rw [lg_entry_eq]
  generalize (lg_sl ([.ref (ad 99), .int a0]) ++ List.replicate (2 - (lg_sl ([.ref (ad 99), .int a0])).length) Slot.unset).toArray = ls at hl ⊢
  have hl : lv_has ls 2 [(0, .ref (ad 99)), (1, .int a0)] := hl
  have hf : (ob2 (m_leaves I A 20) fun (I1 : Nat → Int32) (A2 : Nat → Nat → Int32) =>
    some (a0, I1, A2)) = some (r, I1, A1) := hf
  refine lv_aload_n hx hb dX3_bareMark_0 rfl (lv_at hl 0 rfl) ?_
  refine lv_bipush (v := 20) hx hb dX3_bareMark_1 (by decide) ?_
  obtain ⟨I1, A2, h2, hf⟩ := ob2_e hf
  refine g_vW (ov := none) (D := D) (Sc := mS) (adc := ad) (Ic := I) (Ac := A) (Rc := nR) (Gc := nG) (As := [.int 20]) (rest := []) (Ic1 := I1) (Ac1 := A2) (Rc1 := nR) (Gc1 := nG) (b := ad 99) (C := RX3) ⟨hx, hb, hml, hown, hts⟩ (m_leaves_met l D ad hI I A 20 I1 A2 h2) (g_cwV 1 hts (lw_V q1595 q1597 qs65 q82 q1598) rfl rfl m_leaves_ds ⟨Nat.le_trans (Nat.le_of_ble_eq_true rfl) hRf, Nat.le_trans (Nat.le_of_ble_eq_true rfl) hRl⟩) (g_recv hK hW mO rfl) hK hW hS hA hcs rfl hl.1 rfl (Nat.le_of_ble_eq_true rfl) dX3_bareMark_3 (fun H locs hW _ hS => ?_)
  refine lv_iload_n hx hb dX3_bareMark_6 rfl (lv_at hl 1 rfl) ?_
  obtain ⟨rfl, rfl, rfl⟩ := so3 hf
  exact W.iret hx hb hr (fun t ht _ => ⟨rfl, by rw [ht]; exact hW, hS.F ht⟩) hS.2.2 dX3_bareMark_7
theorem m_bareMark_ds : yX3_bareMark.cls = RX3 ∧ yX3_bareMark.cls ≠ "java/lang/invoke/MethodHandle" ∧ yX3_bareMark.cls ≠ "java/lang/invoke/VarHandle" ∧ (parseMethodDescriptor yX3_bareMark.desc).map (fun d => d.parameters.length) = some 1 := by decide +kernel
/-! grownMark -/
def m_grownMark (I : Nat → Int32) (A : Nat → Nat → Int32) (a0 : Int32) : Option (Int32 × (Nat → Int32) × (Nat → Nat → Int32)) :=
  ob2 (m_leaves I A 21) fun (I1 : Nat → Int32) (A2 : Nat → Nat → Int32) =>
  ob3 (m_bareMark I1 A2 a0) fun (v3 : Int32) (I4 : Nat → Int32) (A5 : Nat → Nat → Int32) =>
  ob1 (ldO (A5 0) 2044 (15 + a0)) fun (v6 : Int32) =>
  some (v3 + v6, I4, A5)
set_option maxRecDepth 100000 in
set_option maxHeartbeats 4000000 in
theorem m_grownMark_met (l : Launch) (D : dd_) (ad : Nat → Nat) (hI : Inj mS ad) (I : Nat → Int32) (A : Nat → Nat → Int32) (a0 : Int32) (r : Int32) (I1 : (Nat → Int32)) (A1 : (Nat → Nat → Int32)) (hf : m_grownMark I A a0 = some (r, I1, A1)) : Met l yX3_grownMark (ws_ yX3_grownMark cX3_grownMark 2 (some .int)) ({ frames := 3, cells := 0, slots := 0, locals := 58 }) (PcW D mS ad I A nR nG [.ref (ad 99), .int a0]) (QcW D mS ad I1 A1 nR nG (some (.int r))) 0 0 (frS mS ad) := by
  refine Met.ofW (cc := cX3_grownMark) (maxL := 2) (ret := (some .int)) (by decide) rfl ?_
  intro p e s m args below meth c s₁ B hml hv
  obtain ⟨rfl, hK, hW⟩ := hv
  have hx := B.exec
  have hb := B.bytes
  have hr := B.returns
  have hts := atoms_spec (ws := (ws_ yX3_grownMark cX3_grownMark 2 (some .int))) B.pre
  have hts : ∀ w ∈ lw_all, w.before _ s = true := fun w h => hts w (List.mem_cons_of_mem _ h)
  have hown : s.vm.findClass RX3 = some m.cls := findClass_of_methodNamed B.named
  have hlocks := B.notSynchronized
  have hRf : 3 ≤ (headSpec (ws_ yX3_grownMark cX3_grownMark 2 (some .int)) ({ frames := 3, cells := 0, slots := 0, locals := 58 })).room.frames := Nat.le_refl _
  have hRl : 58 ≤ (headSpec (ws_ yX3_grownMark cX3_grownMark 2 (some .int)) ({ frames := 3, cells := 0, slots := 0, locals := 58 })).room.locals := Nat.le_refl _
  have hcs : 0 ≤ (headSpec (ws_ yX3_grownMark cX3_grownMark 2 (some .int)) ({ frames := 3, cells := 0, slots := 0, locals := 58 })).room.cells ∧ 0 ≤ (headSpec (ws_ yX3_grownMark cX3_grownMark 2 (some .int)) ({ frames := 3, cells := 0, slots := 0, locals := 58 })).room.slots := ⟨Nat.zero_le _, Nat.zero_le _⟩
  have hA : ∀ i ∈ idxS mS, frS mS ad (ad i) := fun i hi => ⟨i, hi, rfl⟩
  have hS : va_S (frS mS ad) s.heap s.heap [] := va_S.rf
  have hl := lv_entry ([.ref (ad 99), .int a0]) (n := 2) (Nat.le_of_ble_eq_true rfl)
  rw [lg_entry_eq]
  generalize (lg_sl ([.ref (ad 99), .int a0]) ++ List.replicate (2 - (lg_sl ([.ref (ad 99), .int a0])).length) Slot.unset).toArray = ls at hl ⊢
  have hl : lv_has ls 2 [(0, .ref (ad 99)), (1, .int a0)] := hl
  have hf : (ob2 (m_leaves I A 21) fun (I1 : Nat → Int32) (A2 : Nat → Nat → Int32) =>
    ob3 (m_bareMark I1 A2 a0) fun (v3 : Int32) (I4 : Nat → Int32) (A5 : Nat → Nat → Int32) =>
    ob1 (ldO (A5 0) 2044 (15 + a0)) fun (v6 : Int32) =>
    some (v3 + v6, I4, A5)) = some (r, I1, A1) := hf
  refine lv_aload_n hx hb dX3_grownMark_0 rfl (lv_at hl 0 rfl) ?_
  refine lv_bipush (v := 21) hx hb dX3_grownMark_1 (by decide) ?_
  obtain ⟨I1, A2, h2, hf⟩ := ob2_e hf
  refine g_vW (ov := none) (D := D) (Sc := mS) (adc := ad) (Ic := I) (Ac := A) (Rc := nR) (Gc := nG) (As := [.int 21]) (rest := []) (Ic1 := I1) (Ac1 := A2) (Rc1 := nR) (Gc1 := nG) (b := ad 99) (C := RX3) ⟨hx, hb, hml, hown, hts⟩ (m_leaves_met l D ad hI I A 21 I1 A2 h2) (g_cwV 1 hts (lw_V q1595 q1597 qs65 q82 q1598) rfl rfl m_leaves_ds ⟨Nat.le_trans (Nat.le_of_ble_eq_true rfl) hRf, Nat.le_trans (Nat.le_of_ble_eq_true rfl) hRl⟩) (g_recv hK hW mO rfl) hK hW hS hA hcs rfl hl.1 rfl (Nat.le_of_ble_eq_true rfl) dX3_grownMark_3 (fun H locs hW _ hS => ?_)
  refine lv_aload_n hx hb dX3_grownMark_6 rfl (lv_at hl 0 rfl) ?_
  refine lv_iload_n hx hb dX3_grownMark_7 rfl (lv_at hl 1 rfl) ?_
  obtain ⟨v3, I4, A5, h5, hf⟩ := ob3_e hf
  refine g_vW (ov := some (.int v3)) (D := D) (Sc := mS) (adc := ad) (Ic := I1) (Ac := A2) (Rc := nR) (Gc := nG) (As := [.int a0]) (rest := []) (Ic1 := I4) (Ac1 := A5) (Rc1 := nR) (Gc1 := nG) (b := ad 99) (C := RX3) ⟨hx, hb, hml, hown, hts⟩ (m_bareMark_met l D ad hI I1 A2 a0 v3 I4 A5 h5) (g_cwV 1 hts (lw_V q1615 q1617 qs70 q82 q1618) rfl rfl m_bareMark_ds ⟨Nat.le_trans (Nat.le_of_ble_eq_true rfl) hRf, Nat.le_trans (Nat.le_of_ble_eq_true rfl) hRl⟩) (g_recv hK hW mO rfl) hK hW hS hA hcs rfl hl.1 rfl (Nat.le_of_ble_eq_true rfl) dX3_grownMark_8 (fun H locs hW _ hS => ?_)
  refine lv_aload_n hx hb dX3_grownMark_11 rfl (lv_at hl 0 rfl) ?_
  refine g_get (v := .ref (ad 0)) hx hb hts hown hK hW mO in_X3 rfl 0 (by decide) q1212 rfl rfl dX3_grownMark_12 ?_
  refine lv_bipush (v := 15) hx hb dX3_grownMark_15 (by decide) ?_
  refine lv_iload_n hx hb dX3_grownMark_17 rfl (lv_at hl 1 rfl) ?_
  refine lv_iadd hx hb dX3_grownMark_18 ?_
  obtain ⟨v6, hv6, hf⟩ := ob1_e hf
  refine g_iald hx hb hK hW mA0 hv6 dX3_grownMark_19 ?_
  refine lv_iadd hx hb dX3_grownMark_20 ?_
  obtain ⟨rfl, rfl, rfl⟩ := so3 hf
  exact W.iret hx hb hr (fun t ht _ => ⟨rfl, by rw [ht]; exact hW, hS.F ht⟩) hS.2.2 dX3_grownMark_21
theorem m_grownMark_ds : yX3_grownMark.cls = RX3 ∧ yX3_grownMark.cls ≠ "java/lang/invoke/MethodHandle" ∧ yX3_grownMark.cls ≠ "java/lang/invoke/VarHandle" ∧ (parseMethodDescriptor yX3_grownMark.desc).map (fun d => d.parameters.length) = some 1 := by decide +kernel
/-! markOfGrown -/
def m_markOfGrown (I : Nat → Int32) (A : Nat → Nat → Int32) (a0 : Int32) : Option (Int32 × (Nat → Int32) × (Nat → Nat → Int32)) :=
  ob1 (ldO (A 0) 2044 (10 + a0)) fun (v1 : Int32) =>
  if v1 = 2 then (ob2 (m_leaves I A 24) fun (I13 : Nat → Int32) (A14 : Nat → Nat → Int32) =>
    ob3 (m_grownMark I13 A14 a0) fun (v15 : Int32) (I16 : Nat → Int32) (A17 : Nat → Nat → Int32) =>
    some (2 * v15, I16, A17)) else (ob1 (ldO (A 0) 2044 (10 + a0)) fun (v3 : Int32) =>
    if v3 = 3 then (ob2 (m_leaves I A 22) fun (I8 : Nat → Int32) (A9 : Nat → Nat → Int32) =>
      ob3 (m_grownMark I8 A9 a0) fun (v10 : Int32) (I11 : Nat → Int32) (A12 : Nat → Nat → Int32) =>
      some (v10 - 1000, I11, A12)) else (ob3 (m_grownMark I A a0) fun (v5 : Int32) (I6 : Nat → Int32) (A7 : Nat → Nat → Int32) =>
      some (v5, I6, A7)))
set_option maxRecDepth 100000 in
set_option maxHeartbeats 4000000 in
theorem m_markOfGrown_met (l : Launch) (D : dd_) (ad : Nat → Nat) (hI : Inj mS ad) (I : Nat → Int32) (A : Nat → Nat → Int32) (a0 : Int32) (r : Int32) (I1 : (Nat → Int32)) (A1 : (Nat → Nat → Int32)) (hf : m_markOfGrown I A a0 = some (r, I1, A1)) : Met l yX3_markOfGrown (ws_ yX3_markOfGrown cX3_markOfGrown 2 (some .int)) ({ frames := 4, cells := 0, slots := 0, locals := 79 }) (PcW D mS ad I A nR nG [.ref (ad 99), .int a0]) (QcW D mS ad I1 A1 nR nG (some (.int r))) 0 0 (frS mS ad) := by
  refine Met.ofW (cc := cX3_markOfGrown) (maxL := 2) (ret := (some .int)) (by decide) rfl ?_
  intro p e s m args below meth c s₁ B hml hv
  obtain ⟨rfl, hK, hW⟩ := hv
  have hx := B.exec
  have hb := B.bytes
  have hr := B.returns
  have hts := atoms_spec (ws := (ws_ yX3_markOfGrown cX3_markOfGrown 2 (some .int))) B.pre
  have hts : ∀ w ∈ lw_all, w.before _ s = true := fun w h => hts w (List.mem_cons_of_mem _ h)
  have hown : s.vm.findClass RX3 = some m.cls := findClass_of_methodNamed B.named
  have hlocks := B.notSynchronized
  have hRf : 4 ≤ (headSpec (ws_ yX3_markOfGrown cX3_markOfGrown 2 (some .int)) ({ frames := 4, cells := 0, slots := 0, locals := 79 })).room.frames := Nat.le_refl _
  have hRl : 79 ≤ (headSpec (ws_ yX3_markOfGrown cX3_markOfGrown 2 (some .int)) ({ frames := 4, cells := 0, slots := 0, locals := 79 })).room.locals := Nat.le_refl _
  have hcs : 0 ≤ (headSpec (ws_ yX3_markOfGrown cX3_markOfGrown 2 (some .int)) ({ frames := 4, cells := 0, slots := 0, locals := 79 })).room.cells ∧ 0 ≤ (headSpec (ws_ yX3_markOfGrown cX3_markOfGrown 2 (some .int)) ({ frames := 4, cells := 0, slots := 0, locals := 79 })).room.slots := ⟨Nat.zero_le _, Nat.zero_le _⟩
  have hA : ∀ i ∈ idxS mS, frS mS ad (ad i) := fun i hi => ⟨i, hi, rfl⟩
  have hS : va_S (frS mS ad) s.heap s.heap [] := va_S.rf
  have hl := lv_entry ([.ref (ad 99), .int a0]) (n := 2) (Nat.le_of_ble_eq_true rfl)
  rw [lg_entry_eq]
  generalize (lg_sl ([.ref (ad 99), .int a0]) ++ List.replicate (2 - (lg_sl ([.ref (ad 99), .int a0])).length) Slot.unset).toArray = ls at hl ⊢
  have hl : lv_has ls 2 [(0, .ref (ad 99)), (1, .int a0)] := hl
  have hf : (ob1 (ldO (A 0) 2044 (10 + a0)) fun (v1 : Int32) =>
    if v1 = 2 then (ob2 (m_leaves I A 24) fun (I13 : Nat → Int32) (A14 : Nat → Nat → Int32) =>
      ob3 (m_grownMark I13 A14 a0) fun (v15 : Int32) (I16 : Nat → Int32) (A17 : Nat → Nat → Int32) =>
      some (2 * v15, I16, A17)) else (ob1 (ldO (A 0) 2044 (10 + a0)) fun (v3 : Int32) =>
      if v3 = 3 then (ob2 (m_leaves I A 22) fun (I8 : Nat → Int32) (A9 : Nat → Nat → Int32) =>
        ob3 (m_grownMark I8 A9 a0) fun (v10 : Int32) (I11 : Nat → Int32) (A12 : Nat → Nat → Int32) =>
        some (v10 - 1000, I11, A12)) else (ob3 (m_grownMark I A a0) fun (v5 : Int32) (I6 : Nat → Int32) (A7 : Nat → Nat → Int32) =>
        some (v5, I6, A7)))) = some (r, I1, A1) := hf
  refine lv_aload_n hx hb dX3_markOfGrown_0 rfl (lv_at hl 0 rfl) ?_
  refine g_get (v := .ref (ad 0)) hx hb hts hown hK hW mO in_X3 rfl 0 (by decide) q1212 rfl rfl dX3_markOfGrown_1 ?_
  refine lv_bipush (v := 10) hx hb dX3_markOfGrown_4 (by decide) ?_
  refine lv_iload_n hx hb dX3_markOfGrown_6 rfl (lv_at hl 1 rfl) ?_
  refine lv_iadd hx hb dX3_markOfGrown_7 ?_
  obtain ⟨v1, hv1, hf⟩ := ob1_e hf
  refine g_iald hx hb hK hW mA0 hv1 dX3_markOfGrown_8 ?_
  refine lv_iconst (v := 2) hx hb dX3_markOfGrown_9 (by decide) ?_
  refine lv_icmp_ne (tgt := 27) hx hb dX3_markOfGrown_10 (by decide) (fun c2 => ?_) (fun c2 => ?_)
  · rw [if_neg c2] at hf
    refine lv_aload_n hx hb dX3_markOfGrown_27 rfl (lv_at hl 0 rfl) ?_
    refine g_get (v := .ref (ad 0)) hx hb hts hown hK hW mO in_X3 rfl 0 (by decide) q1212 rfl rfl dX3_markOfGrown_28 ?_
    refine lv_bipush (v := 10) hx hb dX3_markOfGrown_31 (by decide) ?_
    refine lv_iload_n hx hb dX3_markOfGrown_33 rfl (lv_at hl 1 rfl) ?_
    refine lv_iadd hx hb dX3_markOfGrown_34 ?_
    obtain ⟨v3, hv3, hf⟩ := ob1_e hf
    refine g_iald hx hb hK hW mA0 hv3 dX3_markOfGrown_35 ?_
    refine lv_iconst (v := 3) hx hb dX3_markOfGrown_36 (by decide) ?_
    refine lv_icmp_ne (tgt := 56) hx hb dX3_markOfGrown_37 (by decide) (fun c4 => ?_) (fun c4 => ?_)
    · rw [if_neg c4] at hf
      refine lv_aload_n hx hb dX3_markOfGrown_56 rfl (lv_at hl 0 rfl) ?_
      refine lv_iload_n hx hb dX3_markOfGrown_57 rfl (lv_at hl 1 rfl) ?_
      obtain ⟨v5, I6, A7, h7, hf⟩ := ob3_e hf
      refine g_vW (ov := some (.int v5)) (D := D) (Sc := mS) (adc := ad) (Ic := I) (Ac := A) (Rc := nR) (Gc := nG) (As := [.int a0]) (rest := []) (Ic1 := I6) (Ac1 := A7) (Rc1 := nR) (Gc1 := nG) (b := ad 99) (C := RX3) ⟨hx, hb, hml, hown, hts⟩ (m_grownMark_met l D ad hI I A a0 v5 I6 A7 h7) (g_cwV 1 hts (lw_V q1611 q1613 qs69 q82 q1614) rfl rfl m_grownMark_ds ⟨Nat.le_trans (Nat.le_of_ble_eq_true rfl) hRf, Nat.le_trans (Nat.le_of_ble_eq_true rfl) hRl⟩) (g_recv hK hW mO rfl) hK hW hS hA hcs rfl hl.1 rfl (Nat.le_of_ble_eq_true rfl) dX3_markOfGrown_58 (fun H locs hW _ hS => ?_)
      obtain ⟨rfl, rfl, rfl⟩ := so3 hf
      exact W.iret hx hb hr (fun t ht _ => ⟨rfl, by rw [ht]; exact hW, hS.F ht⟩) hS.2.2 dX3_markOfGrown_61
    · rw [if_pos c4] at hf
      refine lv_aload_n hx hb dX3_markOfGrown_40 rfl (lv_at hl 0 rfl) ?_
      refine lv_bipush (v := 22) hx hb dX3_markOfGrown_41 (by decide) ?_
      obtain ⟨I8, A9, h9, hf⟩ := ob2_e hf
      refine g_vW (ov := none) (D := D) (Sc := mS) (adc := ad) (Ic := I) (Ac := A) (Rc := nR) (Gc := nG) (As := [.int 22]) (rest := []) (Ic1 := I8) (Ac1 := A9) (Rc1 := nR) (Gc1 := nG) (b := ad 99) (C := RX3) ⟨hx, hb, hml, hown, hts⟩ (m_leaves_met l D ad hI I A 22 I8 A9 h9) (g_cwV 1 hts (lw_V q1595 q1597 qs65 q82 q1598) rfl rfl m_leaves_ds ⟨Nat.le_trans (Nat.le_of_ble_eq_true rfl) hRf, Nat.le_trans (Nat.le_of_ble_eq_true rfl) hRl⟩) (g_recv hK hW mO rfl) hK hW hS hA hcs rfl hl.1 rfl (Nat.le_of_ble_eq_true rfl) dX3_markOfGrown_43 (fun H locs hW _ hS => ?_)
      refine lv_aload_n hx hb dX3_markOfGrown_46 rfl (lv_at hl 0 rfl) ?_
      refine lv_iload_n hx hb dX3_markOfGrown_47 rfl (lv_at hl 1 rfl) ?_
      obtain ⟨v10, I11, A12, h12, hf⟩ := ob3_e hf
      refine g_vW (ov := some (.int v10)) (D := D) (Sc := mS) (adc := ad) (Ic := I8) (Ac := A9) (Rc := nR) (Gc := nG) (As := [.int a0]) (rest := []) (Ic1 := I11) (Ac1 := A12) (Rc1 := nR) (Gc1 := nG) (b := ad 99) (C := RX3) ⟨hx, hb, hml, hown, hts⟩ (m_grownMark_met l D ad hI I8 A9 a0 v10 I11 A12 h12) (g_cwV 1 hts (lw_V q1611 q1613 qs69 q82 q1614) rfl rfl m_grownMark_ds ⟨Nat.le_trans (Nat.le_of_ble_eq_true rfl) hRf, Nat.le_trans (Nat.le_of_ble_eq_true rfl) hRl⟩) (g_recv hK hW mO rfl) hK hW hS hA hcs rfl hl.1 rfl (Nat.le_of_ble_eq_true rfl) dX3_markOfGrown_48 (fun H locs hW _ hS => ?_)
      refine lv_sipush (v := 1000) hx hb dX3_markOfGrown_51 (by decide) ?_
      refine lv_isub hx hb dX3_markOfGrown_54 ?_
      obtain ⟨rfl, rfl, rfl⟩ := so3 hf
      exact W.iret hx hb hr (fun t ht _ => ⟨rfl, by rw [ht]; exact hW, hS.F ht⟩) hS.2.2 dX3_markOfGrown_55
  · rw [if_pos c2] at hf
    refine lv_aload_n hx hb dX3_markOfGrown_13 rfl (lv_at hl 0 rfl) ?_
    refine lv_bipush (v := 24) hx hb dX3_markOfGrown_14 (by decide) ?_
    obtain ⟨I13, A14, h14, hf⟩ := ob2_e hf
    refine g_vW (ov := none) (D := D) (Sc := mS) (adc := ad) (Ic := I) (Ac := A) (Rc := nR) (Gc := nG) (As := [.int 24]) (rest := []) (Ic1 := I13) (Ac1 := A14) (Rc1 := nR) (Gc1 := nG) (b := ad 99) (C := RX3) ⟨hx, hb, hml, hown, hts⟩ (m_leaves_met l D ad hI I A 24 I13 A14 h14) (g_cwV 1 hts (lw_V q1595 q1597 qs65 q82 q1598) rfl rfl m_leaves_ds ⟨Nat.le_trans (Nat.le_of_ble_eq_true rfl) hRf, Nat.le_trans (Nat.le_of_ble_eq_true rfl) hRl⟩) (g_recv hK hW mO rfl) hK hW hS hA hcs rfl hl.1 rfl (Nat.le_of_ble_eq_true rfl) dX3_markOfGrown_16 (fun H locs hW _ hS => ?_)
    refine lv_iconst (v := 2) hx hb dX3_markOfGrown_19 (by decide) ?_
    refine lv_aload_n hx hb dX3_markOfGrown_20 rfl (lv_at hl 0 rfl) ?_
    refine lv_iload_n hx hb dX3_markOfGrown_21 rfl (lv_at hl 1 rfl) ?_
    obtain ⟨v15, I16, A17, h17, hf⟩ := ob3_e hf
    refine g_vW (ov := some (.int v15)) (D := D) (Sc := mS) (adc := ad) (Ic := I13) (Ac := A14) (Rc := nR) (Gc := nG) (As := [.int a0]) (rest := [.int 2]) (Ic1 := I16) (Ac1 := A17) (Rc1 := nR) (Gc1 := nG) (b := ad 99) (C := RX3) ⟨hx, hb, hml, hown, hts⟩ (m_grownMark_met l D ad hI I13 A14 a0 v15 I16 A17 h17) (g_cwV 1 hts (lw_V q1611 q1613 qs69 q82 q1614) rfl rfl m_grownMark_ds ⟨Nat.le_trans (Nat.le_of_ble_eq_true rfl) hRf, Nat.le_trans (Nat.le_of_ble_eq_true rfl) hRl⟩) (g_recv hK hW mO rfl) hK hW hS hA hcs rfl hl.1 rfl (Nat.le_of_ble_eq_true rfl) dX3_markOfGrown_22 (fun H locs hW _ hS => ?_)
    refine lv_imul hx hb dX3_markOfGrown_25 ?_
    obtain ⟨rfl, rfl, rfl⟩ := so3 hf
    exact W.iret hx hb hr (fun t ht _ => ⟨rfl, by rw [ht]; exact hW, hS.F ht⟩) hS.2.2 dX3_markOfGrown_26
theorem m_markOfGrown_ds : yX3_markOfGrown.cls = RX3 ∧ yX3_markOfGrown.cls ≠ "java/lang/invoke/MethodHandle" ∧ yX3_markOfGrown.cls ≠ "java/lang/invoke/VarHandle" ∧ (parseMethodDescriptor yX3_markOfGrown.desc).map (fun d => d.parameters.length) = some 1 := by decide +kernel
/-! grownSize -/
def m_grownSize (I : Nat → Int32) (A : Nat → Nat → Int32) (a0 : Int32) : Option (Int32 × (Nat → Int32) × (Nat → Nat → Int32)) :=
  ob2 (m_leaves I A 11) fun (I1 : Nat → Int32) (A2 : Nat → Nat → Int32) =>
  ob3 (m_bareSize I1 A2 a0) fun (v3 : Int32) (I4 : Nat → Int32) (A5 : Nat → Nat → Int32) =>
  ob3 (m_markOfGrown I4 A5 a0) fun (v6 : Int32) (I7 : Nat → Int32) (A8 : Nat → Nat → Int32) =>
  some (v3 + v6, I7, A8)
set_option maxRecDepth 100000 in
set_option maxHeartbeats 4000000 in
theorem m_grownSize_met (l : Launch) (D : dd_) (ad : Nat → Nat) (hI : Inj mS ad) (I : Nat → Int32) (A : Nat → Nat → Int32) (a0 : Int32) (r : Int32) (I1 : (Nat → Int32)) (A1 : (Nat → Nat → Int32)) (hf : m_grownSize I A a0 = some (r, I1, A1)) : Met l yX3_grownSize (ws_ yX3_grownSize cX3_grownSize 3 (some .int)) ({ frames := 5, cells := 0, slots := 0, locals := 103 }) (PcW D mS ad I A nR nG [.ref (ad 99), .int a0]) (QcW D mS ad I1 A1 nR nG (some (.int r))) 0 0 (frS mS ad) := by
  refine Met.ofW (cc := cX3_grownSize) (maxL := 3) (ret := (some .int)) (by decide) rfl ?_
  intro p e s m args below meth c s₁ B hml hv
  obtain ⟨rfl, hK, hW⟩ := hv
  have hx := B.exec
  have hb := B.bytes
  have hr := B.returns
  have hts := atoms_spec (ws := (ws_ yX3_grownSize cX3_grownSize 3 (some .int))) B.pre
  have hts : ∀ w ∈ lw_all, w.before _ s = true := fun w h => hts w (List.mem_cons_of_mem _ h)
  have hown : s.vm.findClass RX3 = some m.cls := findClass_of_methodNamed B.named
  have hlocks := B.notSynchronized
  have hRf : 5 ≤ (headSpec (ws_ yX3_grownSize cX3_grownSize 3 (some .int)) ({ frames := 5, cells := 0, slots := 0, locals := 103 })).room.frames := Nat.le_refl _
  have hRl : 103 ≤ (headSpec (ws_ yX3_grownSize cX3_grownSize 3 (some .int)) ({ frames := 5, cells := 0, slots := 0, locals := 103 })).room.locals := Nat.le_refl _
  have hcs : 0 ≤ (headSpec (ws_ yX3_grownSize cX3_grownSize 3 (some .int)) ({ frames := 5, cells := 0, slots := 0, locals := 103 })).room.cells ∧ 0 ≤ (headSpec (ws_ yX3_grownSize cX3_grownSize 3 (some .int)) ({ frames := 5, cells := 0, slots := 0, locals := 103 })).room.slots := ⟨Nat.zero_le _, Nat.zero_le _⟩
  have hA : ∀ i ∈ idxS mS, frS mS ad (ad i) := fun i hi => ⟨i, hi, rfl⟩
  have hS : va_S (frS mS ad) s.heap s.heap [] := va_S.rf
  have hl := lv_entry ([.ref (ad 99), .int a0]) (n := 3) (Nat.le_of_ble_eq_true rfl)
  rw [lg_entry_eq]
  generalize (lg_sl ([.ref (ad 99), .int a0]) ++ List.replicate (3 - (lg_sl ([.ref (ad 99), .int a0])).length) Slot.unset).toArray = ls at hl ⊢
  have hl : lv_has ls 3 [(0, .ref (ad 99)), (1, .int a0)] := hl
  have hf : (ob2 (m_leaves I A 11) fun (I1 : Nat → Int32) (A2 : Nat → Nat → Int32) =>
    ob3 (m_bareSize I1 A2 a0) fun (v3 : Int32) (I4 : Nat → Int32) (A5 : Nat → Nat → Int32) =>
    ob3 (m_markOfGrown I4 A5 a0) fun (v6 : Int32) (I7 : Nat → Int32) (A8 : Nat → Nat → Int32) =>
    some (v3 + v6, I7, A8)) = some (r, I1, A1) := hf
  refine lv_aload_n hx hb dX3_grownSize_0 rfl (lv_at hl 0 rfl) ?_
  refine lv_bipush (v := 11) hx hb dX3_grownSize_1 (by decide) ?_
  obtain ⟨I1, A2, h2, hf⟩ := ob2_e hf
  refine g_vW (ov := none) (D := D) (Sc := mS) (adc := ad) (Ic := I) (Ac := A) (Rc := nR) (Gc := nG) (As := [.int 11]) (rest := []) (Ic1 := I1) (Ac1 := A2) (Rc1 := nR) (Gc1 := nG) (b := ad 99) (C := RX3) ⟨hx, hb, hml, hown, hts⟩ (m_leaves_met l D ad hI I A 11 I1 A2 h2) (g_cwV 1 hts (lw_V q1595 q1597 qs65 q82 q1598) rfl rfl m_leaves_ds ⟨Nat.le_trans (Nat.le_of_ble_eq_true rfl) hRf, Nat.le_trans (Nat.le_of_ble_eq_true rfl) hRl⟩) (g_recv hK hW mO rfl) hK hW hS hA hcs rfl hl.1 rfl (Nat.le_of_ble_eq_true rfl) dX3_grownSize_3 (fun H locs hW _ hS => ?_)
  refine lv_aload_n hx hb dX3_grownSize_6 rfl (lv_at hl 0 rfl) ?_
  refine lv_iload_n hx hb dX3_grownSize_7 rfl (lv_at hl 1 rfl) ?_
  obtain ⟨v3, I4, A5, h5, hf⟩ := ob3_e hf
  refine g_vW (ov := some (.int v3)) (D := D) (Sc := mS) (adc := ad) (Ic := I1) (Ac := A2) (Rc := nR) (Gc := nG) (As := [.int a0]) (rest := []) (Ic1 := I4) (Ac1 := A5) (Rc1 := nR) (Gc1 := nG) (b := ad 99) (C := RX3) ⟨hx, hb, hml, hown, hts⟩ (m_bareSize_met l D ad hI I1 A2 a0 v3 I4 A5 h5) (g_cwV 1 hts (lw_V q1603 q1605 qs67 q82 q1606) rfl rfl m_bareSize_ds ⟨Nat.le_trans (Nat.le_of_ble_eq_true rfl) hRf, Nat.le_trans (Nat.le_of_ble_eq_true rfl) hRl⟩) (g_recv hK hW mO rfl) hK hW hS hA hcs rfl hl.1 rfl (Nat.le_of_ble_eq_true rfl) dX3_grownSize_8 (fun H locs hW _ hS => ?_)
  refine lv_istore_n (lv' := [(2, .int v3), (0, .ref (ad 99)), (1, .int a0)]) hx hb dX3_grownSize_11 rfl hl (by decide) rfl (fun ls hl => ?_)
  refine lv_iload_n hx hb dX3_grownSize_12 rfl (lv_at hl 0 rfl) ?_
  refine lv_aload_n hx hb dX3_grownSize_13 rfl (lv_at hl 1 rfl) ?_
  refine lv_iload_n hx hb dX3_grownSize_14 rfl (lv_at hl 2 rfl) ?_
  obtain ⟨v6, I7, A8, h8, hf⟩ := ob3_e hf
  refine g_vW (ov := some (.int v6)) (D := D) (Sc := mS) (adc := ad) (Ic := I4) (Ac := A5) (Rc := nR) (Gc := nG) (As := [.int a0]) (rest := [.int v3]) (Ic1 := I7) (Ac1 := A8) (Rc1 := nR) (Gc1 := nG) (b := ad 99) (C := RX3) ⟨hx, hb, hml, hown, hts⟩ (m_markOfGrown_met l D ad hI I4 A5 a0 v6 I7 A8 h8) (g_cwV 1 hts (lw_V q1607 q1609 qs68 q82 q1610) rfl rfl m_markOfGrown_ds ⟨Nat.le_trans (Nat.le_of_ble_eq_true rfl) hRf, Nat.le_trans (Nat.le_of_ble_eq_true rfl) hRl⟩) (g_recv hK hW mO rfl) hK hW hS hA hcs rfl hl.1 rfl (Nat.le_of_ble_eq_true rfl) dX3_grownSize_15 (fun H locs hW _ hS => ?_)
  refine lv_iadd hx hb dX3_grownSize_18 ?_
  obtain ⟨rfl, rfl, rfl⟩ := so3 hf
  exact W.iret hx hb hr (fun t ht _ => ⟨rfl, by rw [ht]; exact hW, hS.F ht⟩) hS.2.2 dX3_grownSize_19
theorem m_grownSize_ds : yX3_grownSize.cls = RX3 ∧ yX3_grownSize.cls ≠ "java/lang/invoke/MethodHandle" ∧ yX3_grownSize.cls ≠ "java/lang/invoke/VarHandle" ∧ (parseMethodDescriptor yX3_grownSize.desc).map (fun d => d.parameters.length) = some 1 := by decide +kernel
/-! childSize -/
def m_childSize (I : Nat → Int32) (A : Nat → Nat → Int32) (a0 : Int32) : Option (Int32 × (Nat → Int32) × (Nat → Nat → Int32)) :=
  ob2 (m_leaves I A 13) fun (I1 : Nat → Int32) (A2 : Nat → Nat → Int32) =>
  ob3 (m_bareSize I1 A2 a0) fun (v3 : Int32) (I4 : Nat → Int32) (A5 : Nat → Nat → Int32) =>
  some (v3 - 100, I4, A5)
set_option maxRecDepth 100000 in
set_option maxHeartbeats 4000000 in
theorem m_childSize_met (l : Launch) (D : dd_) (ad : Nat → Nat) (hI : Inj mS ad) (I : Nat → Int32) (A : Nat → Nat → Int32) (a0 : Int32) (r : Int32) (I1 : (Nat → Int32)) (A1 : (Nat → Nat → Int32)) (hf : m_childSize I A a0 = some (r, I1, A1)) : Met l yX3_childSize (ws_ yX3_childSize cX3_childSize 2 (some .int)) ({ frames := 5, cells := 0, slots := 0, locals := 103 }) (PcW D mS ad I A nR nG [.ref (ad 99), .int a0]) (QcW D mS ad I1 A1 nR nG (some (.int r))) 0 0 (frS mS ad) := by
  refine Met.ofW (cc := cX3_childSize) (maxL := 2) (ret := (some .int)) (by decide) rfl ?_
  intro p e s m args below meth c s₁ B hml hv
  obtain ⟨rfl, hK, hW⟩ := hv
  have hx := B.exec
  have hb := B.bytes
  have hr := B.returns
  have hts := atoms_spec (ws := (ws_ yX3_childSize cX3_childSize 2 (some .int))) B.pre
  have hts : ∀ w ∈ lw_all, w.before _ s = true := fun w h => hts w (List.mem_cons_of_mem _ h)
  have hown : s.vm.findClass RX3 = some m.cls := findClass_of_methodNamed B.named
  have hlocks := B.notSynchronized
  have hRf : 5 ≤ (headSpec (ws_ yX3_childSize cX3_childSize 2 (some .int)) ({ frames := 5, cells := 0, slots := 0, locals := 103 })).room.frames := Nat.le_refl _
  have hRl : 103 ≤ (headSpec (ws_ yX3_childSize cX3_childSize 2 (some .int)) ({ frames := 5, cells := 0, slots := 0, locals := 103 })).room.locals := Nat.le_refl _
  have hcs : 0 ≤ (headSpec (ws_ yX3_childSize cX3_childSize 2 (some .int)) ({ frames := 5, cells := 0, slots := 0, locals := 103 })).room.cells ∧ 0 ≤ (headSpec (ws_ yX3_childSize cX3_childSize 2 (some .int)) ({ frames := 5, cells := 0, slots := 0, locals := 103 })).room.slots := ⟨Nat.zero_le _, Nat.zero_le _⟩
  have hA : ∀ i ∈ idxS mS, frS mS ad (ad i) := fun i hi => ⟨i, hi, rfl⟩
  have hS : va_S (frS mS ad) s.heap s.heap [] := va_S.rf
  have hl := lv_entry ([.ref (ad 99), .int a0]) (n := 2) (Nat.le_of_ble_eq_true rfl)
  rw [lg_entry_eq]
  generalize (lg_sl ([.ref (ad 99), .int a0]) ++ List.replicate (2 - (lg_sl ([.ref (ad 99), .int a0])).length) Slot.unset).toArray = ls at hl ⊢
  have hl : lv_has ls 2 [(0, .ref (ad 99)), (1, .int a0)] := hl
  have hf : (ob2 (m_leaves I A 13) fun (I1 : Nat → Int32) (A2 : Nat → Nat → Int32) =>
    ob3 (m_bareSize I1 A2 a0) fun (v3 : Int32) (I4 : Nat → Int32) (A5 : Nat → Nat → Int32) =>
    some (v3 - 100, I4, A5)) = some (r, I1, A1) := hf
  refine lv_aload_n hx hb dX3_childSize_0 rfl (lv_at hl 0 rfl) ?_
  refine lv_bipush (v := 13) hx hb dX3_childSize_1 (by decide) ?_
  obtain ⟨I1, A2, h2, hf⟩ := ob2_e hf
  refine g_vW (ov := none) (D := D) (Sc := mS) (adc := ad) (Ic := I) (Ac := A) (Rc := nR) (Gc := nG) (As := [.int 13]) (rest := []) (Ic1 := I1) (Ac1 := A2) (Rc1 := nR) (Gc1 := nG) (b := ad 99) (C := RX3) ⟨hx, hb, hml, hown, hts⟩ (m_leaves_met l D ad hI I A 13 I1 A2 h2) (g_cwV 1 hts (lw_V q1595 q1597 qs65 q82 q1598) rfl rfl m_leaves_ds ⟨Nat.le_trans (Nat.le_of_ble_eq_true rfl) hRf, Nat.le_trans (Nat.le_of_ble_eq_true rfl) hRl⟩) (g_recv hK hW mO rfl) hK hW hS hA hcs rfl hl.1 rfl (Nat.le_of_ble_eq_true rfl) dX3_childSize_3 (fun H locs hW _ hS => ?_)
  refine lv_aload_n hx hb dX3_childSize_6 rfl (lv_at hl 0 rfl) ?_
  refine lv_iload_n hx hb dX3_childSize_7 rfl (lv_at hl 1 rfl) ?_
  obtain ⟨v3, I4, A5, h5, hf⟩ := ob3_e hf
  refine g_vW (ov := some (.int v3)) (D := D) (Sc := mS) (adc := ad) (Ic := I1) (Ac := A2) (Rc := nR) (Gc := nG) (As := [.int a0]) (rest := []) (Ic1 := I4) (Ac1 := A5) (Rc1 := nR) (Gc1 := nG) (b := ad 99) (C := RX3) ⟨hx, hb, hml, hown, hts⟩ (m_bareSize_met l D ad hI I1 A2 a0 v3 I4 A5 h5) (g_cwV 1 hts (lw_V q1603 q1605 qs67 q82 q1606) rfl rfl m_bareSize_ds ⟨Nat.le_trans (Nat.le_of_ble_eq_true rfl) hRf, Nat.le_trans (Nat.le_of_ble_eq_true rfl) hRl⟩) (g_recv hK hW mO rfl) hK hW hS hA hcs rfl hl.1 rfl (Nat.le_of_ble_eq_true rfl) dX3_childSize_8 (fun H locs hW _ hS => ?_)
  refine lv_bipush (v := 100) hx hb dX3_childSize_11 (by decide) ?_
  refine lv_isub hx hb dX3_childSize_13 ?_
  obtain ⟨rfl, rfl, rfl⟩ := so3 hf
  exact W.iret hx hb hr (fun t ht _ => ⟨rfl, by rw [ht]; exact hW, hS.F ht⟩) hS.2.2 dX3_childSize_14
theorem m_childSize_ds : yX3_childSize.cls = RX3 ∧ yX3_childSize.cls ≠ "java/lang/invoke/MethodHandle" ∧ yX3_childSize.cls ≠ "java/lang/invoke/VarHandle" ∧ (parseMethodDescriptor yX3_childSize.desc).map (fun d => d.parameters.length) = some 1 := by decide +kernel
/-! sizeOf -/
def m_sizeOf (I : Nat → Int32) (A : Nat → Nat → Int32) (a0 : Int32) : Option (Int32 × (Nat → Int32) × (Nat → Nat → Int32)) :=
  ob1 (ldO (A 0) 2044 (10 + a0)) fun (v1 : Int32) =>
  if v1 = 2 then (ob2 (m_leaves I A 12) fun (I3 : Nat → Int32) (A4 : Nat → Nat → Int32) =>
    ob3 (m_grownSize I3 A4 a0) fun (v5 : Int32) (I6 : Nat → Int32) (A7 : Nat → Nat → Int32) =>
    some (-v5, I6, A7)) else if v1 = 3 then (ob3 (m_grownSize I A a0) fun (v9 : Int32) (I10 : Nat → Int32) (A11 : Nat → Nat → Int32) =>
    some (v9, I10, A11)) else if v1 = 4 then (ob3 (m_childSize I A a0) fun (v13 : Int32) (I14 : Nat → Int32) (A15 : Nat → Nat → Int32) =>
    some (v13, I14, A15)) else if v1 = 5 then (ob2 (m_leaves I A 14) fun (I17 : Nat → Int32) (A18 : Nat → Nat → Int32) =>
    ob3 (m_childSize I17 A18 a0) fun (v19 : Int32) (I20 : Nat → Int32) (A21 : Nat → Nat → Int32) =>
    some (2 * v19, I20, A21)) else (ob3 (m_grownSize I A a0) fun (v22 : Int32) (I23 : Nat → Int32) (A24 : Nat → Nat → Int32) =>
    some (v22, I23, A24))
set_option maxRecDepth 100000 in
set_option maxHeartbeats 4000000 in
theorem m_sizeOf_met (l : Launch) (D : dd_) (ad : Nat → Nat) (hI : Inj mS ad) (I : Nat → Int32) (A : Nat → Nat → Int32) (a0 : Int32) (r : Int32) (I1 : (Nat → Int32)) (A1 : (Nat → Nat → Int32)) (hf : m_sizeOf I A a0 = some (r, I1, A1)) : Met l yX3_sizeOf (ws_ yX3_sizeOf cX3_sizeOf 2 (some .int)) ({ frames := 6, cells := 0, slots := 0, locals := 125 }) (PcW D mS ad I A nR nG [.ref (ad 99), .int a0]) (QcW D mS ad I1 A1 nR nG (some (.int r))) 0 0 (frS mS ad) := by
  refine Met.ofW (cc := cX3_sizeOf) (maxL := 2) (ret := (some .int)) (by decide) rfl ?_
  intro p e s m args below meth c s₁ B hml hv
  obtain ⟨rfl, hK, hW⟩ := hv
  have hx := B.exec
  have hb := B.bytes
  have hr := B.returns
  have hts := atoms_spec (ws := (ws_ yX3_sizeOf cX3_sizeOf 2 (some .int))) B.pre
  have hts : ∀ w ∈ lw_all, w.before _ s = true := fun w h => hts w (List.mem_cons_of_mem _ h)
  have hown : s.vm.findClass RX3 = some m.cls := findClass_of_methodNamed B.named
  have hlocks := B.notSynchronized
  have hRf : 6 ≤ (headSpec (ws_ yX3_sizeOf cX3_sizeOf 2 (some .int)) ({ frames := 6, cells := 0, slots := 0, locals := 125 })).room.frames := Nat.le_refl _
  have hRl : 125 ≤ (headSpec (ws_ yX3_sizeOf cX3_sizeOf 2 (some .int)) ({ frames := 6, cells := 0, slots := 0, locals := 125 })).room.locals := Nat.le_refl _
  have hcs : 0 ≤ (headSpec (ws_ yX3_sizeOf cX3_sizeOf 2 (some .int)) ({ frames := 6, cells := 0, slots := 0, locals := 125 })).room.cells ∧ 0 ≤ (headSpec (ws_ yX3_sizeOf cX3_sizeOf 2 (some .int)) ({ frames := 6, cells := 0, slots := 0, locals := 125 })).room.slots := ⟨Nat.zero_le _, Nat.zero_le _⟩
  have hA : ∀ i ∈ idxS mS, frS mS ad (ad i) := fun i hi => ⟨i, hi, rfl⟩
  have hS : va_S (frS mS ad) s.heap s.heap [] := va_S.rf
  have hl := lv_entry ([.ref (ad 99), .int a0]) (n := 2) (Nat.le_of_ble_eq_true rfl)
  rw [lg_entry_eq]
  generalize (lg_sl ([.ref (ad 99), .int a0]) ++ List.replicate (2 - (lg_sl ([.ref (ad 99), .int a0])).length) Slot.unset).toArray = ls at hl ⊢
  have hl : lv_has ls 2 [(0, .ref (ad 99)), (1, .int a0)] := hl
  have hf : (ob1 (ldO (A 0) 2044 (10 + a0)) fun (v1 : Int32) =>
    if v1 = 2 then (ob2 (m_leaves I A 12) fun (I3 : Nat → Int32) (A4 : Nat → Nat → Int32) =>
      ob3 (m_grownSize I3 A4 a0) fun (v5 : Int32) (I6 : Nat → Int32) (A7 : Nat → Nat → Int32) =>
      some (-v5, I6, A7)) else if v1 = 3 then (ob3 (m_grownSize I A a0) fun (v9 : Int32) (I10 : Nat → Int32) (A11 : Nat → Nat → Int32) =>
      some (v9, I10, A11)) else if v1 = 4 then (ob3 (m_childSize I A a0) fun (v13 : Int32) (I14 : Nat → Int32) (A15 : Nat → Nat → Int32) =>
      some (v13, I14, A15)) else if v1 = 5 then (ob2 (m_leaves I A 14) fun (I17 : Nat → Int32) (A18 : Nat → Nat → Int32) =>
      ob3 (m_childSize I17 A18 a0) fun (v19 : Int32) (I20 : Nat → Int32) (A21 : Nat → Nat → Int32) =>
      some (2 * v19, I20, A21)) else (ob3 (m_grownSize I A a0) fun (v22 : Int32) (I23 : Nat → Int32) (A24 : Nat → Nat → Int32) =>
      some (v22, I23, A24))) = some (r, I1, A1) := hf
  refine lv_aload_n hx hb dX3_sizeOf_0 rfl (lv_at hl 0 rfl) ?_
  refine g_get (v := .ref (ad 0)) hx hb hts hown hK hW mO in_X3 rfl 0 (by decide) q1212 rfl rfl dX3_sizeOf_1 ?_
  refine lv_bipush (v := 10) hx hb dX3_sizeOf_4 (by decide) ?_
  refine lv_iload_n hx hb dX3_sizeOf_6 rfl (lv_at hl 1 rfl) ?_
  refine lv_iadd hx hb dX3_sizeOf_7 ?_
  obtain ⟨v1, hv1, hf⟩ := ob1_e hf
  refine g_iald hx hb hK hW mA0 hv1 dX3_sizeOf_8 ?_
  by_cases c2 : v1 = 2
  · rw [if_pos c2] at hf
    refine g_tsI (tgt := 40) hx hb dX3_sizeOf_9 c2 (by decide) (by decide) rfl (by decide) ?_
    refine lv_aload_n hx hb dX3_sizeOf_40 rfl (lv_at hl 0 rfl) ?_
    refine lv_bipush (v := 12) hx hb dX3_sizeOf_41 (by decide) ?_
    obtain ⟨I3, A4, h4, hf⟩ := ob2_e hf
    refine g_vW (ov := none) (D := D) (Sc := mS) (adc := ad) (Ic := I) (Ac := A) (Rc := nR) (Gc := nG) (As := [.int 12]) (rest := []) (Ic1 := I3) (Ac1 := A4) (Rc1 := nR) (Gc1 := nG) (b := ad 99) (C := RX3) ⟨hx, hb, hml, hown, hts⟩ (m_leaves_met l D ad hI I A 12 I3 A4 h4) (g_cwV 1 hts (lw_V q1595 q1597 qs65 q82 q1598) rfl rfl m_leaves_ds ⟨Nat.le_trans (Nat.le_of_ble_eq_true rfl) hRf, Nat.le_trans (Nat.le_of_ble_eq_true rfl) hRl⟩) (g_recv hK hW mO rfl) hK hW hS hA hcs rfl hl.1 rfl (Nat.le_of_ble_eq_true rfl) dX3_sizeOf_43 (fun H locs hW _ hS => ?_)
    refine lv_aload_n hx hb dX3_sizeOf_46 rfl (lv_at hl 0 rfl) ?_
    refine lv_iload_n hx hb dX3_sizeOf_47 rfl (lv_at hl 1 rfl) ?_
    obtain ⟨v5, I6, A7, h7, hf⟩ := ob3_e hf
    refine g_vW (ov := some (.int v5)) (D := D) (Sc := mS) (adc := ad) (Ic := I3) (Ac := A4) (Rc := nR) (Gc := nG) (As := [.int a0]) (rest := []) (Ic1 := I6) (Ac1 := A7) (Rc1 := nR) (Gc1 := nG) (b := ad 99) (C := RX3) ⟨hx, hb, hml, hown, hts⟩ (m_grownSize_met l D ad hI I3 A4 a0 v5 I6 A7 h7) (g_cwV 1 hts (lw_V q1599 q1601 qs66 q82 q1602) rfl rfl m_grownSize_ds ⟨Nat.le_trans (Nat.le_of_ble_eq_true rfl) hRf, Nat.le_trans (Nat.le_of_ble_eq_true rfl) hRl⟩) (g_recv hK hW mO rfl) hK hW hS hA hcs rfl hl.1 rfl (Nat.le_of_ble_eq_true rfl) dX3_sizeOf_48 (fun H locs hW _ hS => ?_)
    refine lv_ineg hx hb dX3_sizeOf_51 ?_
    obtain ⟨rfl, rfl, rfl⟩ := so3 hf
    exact W.iret hx hb hr (fun t ht _ => ⟨rfl, by rw [ht]; exact hW, hS.F ht⟩) hS.2.2 dX3_sizeOf_52
  · rw [if_neg c2] at hf
    by_cases c8 : v1 = 3
    · rw [if_pos c8] at hf
      refine g_tsI (tgt := 73) hx hb dX3_sizeOf_9 c8 (by decide) (by decide) rfl (by decide) ?_
      refine lv_aload_n hx hb dX3_sizeOf_73 rfl (lv_at hl 0 rfl) ?_
      refine lv_iload_n hx hb dX3_sizeOf_74 rfl (lv_at hl 1 rfl) ?_
      obtain ⟨v9, I10, A11, h11, hf⟩ := ob3_e hf
      refine g_vW (ov := some (.int v9)) (D := D) (Sc := mS) (adc := ad) (Ic := I) (Ac := A) (Rc := nR) (Gc := nG) (As := [.int a0]) (rest := []) (Ic1 := I10) (Ac1 := A11) (Rc1 := nR) (Gc1 := nG) (b := ad 99) (C := RX3) ⟨hx, hb, hml, hown, hts⟩ (m_grownSize_met l D ad hI I A a0 v9 I10 A11 h11) (g_cwV 1 hts (lw_V q1599 q1601 qs66 q82 q1602) rfl rfl m_grownSize_ds ⟨Nat.le_trans (Nat.le_of_ble_eq_true rfl) hRf, Nat.le_trans (Nat.le_of_ble_eq_true rfl) hRl⟩) (g_recv hK hW mO rfl) hK hW hS hA hcs rfl hl.1 rfl (Nat.le_of_ble_eq_true rfl) dX3_sizeOf_75 (fun H locs hW _ hS => ?_)
      obtain ⟨rfl, rfl, rfl⟩ := so3 hf
      exact W.iret hx hb hr (fun t ht _ => ⟨rfl, by rw [ht]; exact hW, hS.F ht⟩) hS.2.2 dX3_sizeOf_78
    · rw [if_neg c8] at hf
      by_cases c12 : v1 = 4
      · rw [if_pos c12] at hf
        refine g_tsI (tgt := 53) hx hb dX3_sizeOf_9 c12 (by decide) (by decide) rfl (by decide) ?_
        refine lv_aload_n hx hb dX3_sizeOf_53 rfl (lv_at hl 0 rfl) ?_
        refine lv_iload_n hx hb dX3_sizeOf_54 rfl (lv_at hl 1 rfl) ?_
        obtain ⟨v13, I14, A15, h15, hf⟩ := ob3_e hf
        refine g_vW (ov := some (.int v13)) (D := D) (Sc := mS) (adc := ad) (Ic := I) (Ac := A) (Rc := nR) (Gc := nG) (As := [.int a0]) (rest := []) (Ic1 := I14) (Ac1 := A15) (Rc1 := nR) (Gc1 := nG) (b := ad 99) (C := RX3) ⟨hx, hb, hml, hown, hts⟩ (m_childSize_met l D ad hI I A a0 v13 I14 A15 h15) (g_cwV 1 hts (lw_V q1619 q1621 qs71 q82 q1622) rfl rfl m_childSize_ds ⟨Nat.le_trans (Nat.le_of_ble_eq_true rfl) hRf, Nat.le_trans (Nat.le_of_ble_eq_true rfl) hRl⟩) (g_recv hK hW mO rfl) hK hW hS hA hcs rfl hl.1 rfl (Nat.le_of_ble_eq_true rfl) dX3_sizeOf_55 (fun H locs hW _ hS => ?_)
        obtain ⟨rfl, rfl, rfl⟩ := so3 hf
        exact W.iret hx hb hr (fun t ht _ => ⟨rfl, by rw [ht]; exact hW, hS.F ht⟩) hS.2.2 dX3_sizeOf_58
      · rw [if_neg c12] at hf
        by_cases c16 : v1 = 5
        · rw [if_pos c16] at hf
          refine g_tsI (tgt := 59) hx hb dX3_sizeOf_9 c16 (by decide) (by decide) rfl (by decide) ?_
          refine lv_aload_n hx hb dX3_sizeOf_59 rfl (lv_at hl 0 rfl) ?_
          refine lv_bipush (v := 14) hx hb dX3_sizeOf_60 (by decide) ?_
          obtain ⟨I17, A18, h18, hf⟩ := ob2_e hf
          refine g_vW (ov := none) (D := D) (Sc := mS) (adc := ad) (Ic := I) (Ac := A) (Rc := nR) (Gc := nG) (As := [.int 14]) (rest := []) (Ic1 := I17) (Ac1 := A18) (Rc1 := nR) (Gc1 := nG) (b := ad 99) (C := RX3) ⟨hx, hb, hml, hown, hts⟩ (m_leaves_met l D ad hI I A 14 I17 A18 h18) (g_cwV 1 hts (lw_V q1595 q1597 qs65 q82 q1598) rfl rfl m_leaves_ds ⟨Nat.le_trans (Nat.le_of_ble_eq_true rfl) hRf, Nat.le_trans (Nat.le_of_ble_eq_true rfl) hRl⟩) (g_recv hK hW mO rfl) hK hW hS hA hcs rfl hl.1 rfl (Nat.le_of_ble_eq_true rfl) dX3_sizeOf_62 (fun H locs hW _ hS => ?_)
          refine lv_iconst (v := 2) hx hb dX3_sizeOf_65 (by decide) ?_
          refine lv_aload_n hx hb dX3_sizeOf_66 rfl (lv_at hl 0 rfl) ?_
          refine lv_iload_n hx hb dX3_sizeOf_67 rfl (lv_at hl 1 rfl) ?_
          obtain ⟨v19, I20, A21, h21, hf⟩ := ob3_e hf
          refine g_vW (ov := some (.int v19)) (D := D) (Sc := mS) (adc := ad) (Ic := I17) (Ac := A18) (Rc := nR) (Gc := nG) (As := [.int a0]) (rest := [.int 2]) (Ic1 := I20) (Ac1 := A21) (Rc1 := nR) (Gc1 := nG) (b := ad 99) (C := RX3) ⟨hx, hb, hml, hown, hts⟩ (m_childSize_met l D ad hI I17 A18 a0 v19 I20 A21 h21) (g_cwV 1 hts (lw_V q1619 q1621 qs71 q82 q1622) rfl rfl m_childSize_ds ⟨Nat.le_trans (Nat.le_of_ble_eq_true rfl) hRf, Nat.le_trans (Nat.le_of_ble_eq_true rfl) hRl⟩) (g_recv hK hW mO rfl) hK hW hS hA hcs rfl hl.1 rfl (Nat.le_of_ble_eq_true rfl) dX3_sizeOf_68 (fun H locs hW _ hS => ?_)
          refine lv_imul hx hb dX3_sizeOf_71 ?_
          obtain ⟨rfl, rfl, rfl⟩ := so3 hf
          exact W.iret hx hb hr (fun t ht _ => ⟨rfl, by rw [ht]; exact hW, hS.F ht⟩) hS.2.2 dX3_sizeOf_72
        · rw [if_neg c16] at hf
          refine lv_tableOut (tgt := 73) hx hb dX3_sizeOf_9 (by have z0 := lv_neT c2 (show (2 : Int32).toInt = 2 by decide); have z1 := lv_neT c8 (show (3 : Int32).toInt = 3 by decide); have z2 := lv_neT c12 (show (4 : Int32).toInt = 4 by decide); have z3 := lv_neT c16 (show (5 : Int32).toInt = 5 by decide); omega) (by decide) ?_
          refine lv_aload_n hx hb dX3_sizeOf_73 rfl (lv_at hl 0 rfl) ?_
          refine lv_iload_n hx hb dX3_sizeOf_74 rfl (lv_at hl 1 rfl) ?_
          obtain ⟨v22, I23, A24, h24, hf⟩ := ob3_e hf
          refine g_vW (ov := some (.int v22)) (D := D) (Sc := mS) (adc := ad) (Ic := I) (Ac := A) (Rc := nR) (Gc := nG) (As := [.int a0]) (rest := []) (Ic1 := I23) (Ac1 := A24) (Rc1 := nR) (Gc1 := nG) (b := ad 99) (C := RX3) ⟨hx, hb, hml, hown, hts⟩ (m_grownSize_met l D ad hI I A a0 v22 I23 A24 h24) (g_cwV 1 hts (lw_V q1599 q1601 qs66 q82 q1602) rfl rfl m_grownSize_ds ⟨Nat.le_trans (Nat.le_of_ble_eq_true rfl) hRf, Nat.le_trans (Nat.le_of_ble_eq_true rfl) hRl⟩) (g_recv hK hW mO rfl) hK hW hS hA hcs rfl hl.1 rfl (Nat.le_of_ble_eq_true rfl) dX3_sizeOf_75 (fun H locs hW _ hS => ?_)
          obtain ⟨rfl, rfl, rfl⟩ := so3 hf
          exact W.iret hx hb hr (fun t ht _ => ⟨rfl, by rw [ht]; exact hW, hS.F ht⟩) hS.2.2 dX3_sizeOf_78
theorem m_sizeOf_ds : yX3_sizeOf.cls = RX3 ∧ yX3_sizeOf.cls ≠ "java/lang/invoke/MethodHandle" ∧ yX3_sizeOf.cls ≠ "java/lang/invoke/VarHandle" ∧ (parseMethodDescriptor yX3_sizeOf.desc).map (fun d => d.parameters.length) = some 1 := by decide +kernel
/-! markOf -/
def m_markOf (I : Nat → Int32) (A : Nat → Nat → Int32) (a0 : Int32) : Option (Int32 × (Nat → Int32) × (Nat → Nat → Int32)) :=
  ob1 (ldO (A 0) 2044 (10 + a0)) fun (v1 : Int32) =>
  if 4 ≤ v1 then (ob2 (m_leaves I A 23) fun (I3 : Nat → Int32) (A4 : Nat → Nat → Int32) =>
    ob3 (m_bareMark I3 A4 a0) fun (v5 : Int32) (I6 : Nat → Int32) (A7 : Nat → Nat → Int32) =>
    ob3 (m_sizeOf I6 A7 a0) fun (v8 : Int32) (I9 : Nat → Int32) (A10 : Nat → Nat → Int32) =>
    some (v5 - v8, I9, A10)) else (ob3 (m_markOfGrown I A a0) fun (v11 : Int32) (I12 : Nat → Int32) (A13 : Nat → Nat → Int32) =>
    some (v11, I12, A13))
set_option maxRecDepth 100000 in
set_option maxHeartbeats 4000000 in
theorem m_markOf_met (l : Launch) (D : dd_) (ad : Nat → Nat) (hI : Inj mS ad) (I : Nat → Int32) (A : Nat → Nat → Int32) (a0 : Int32) (r : Int32) (I1 : (Nat → Int32)) (A1 : (Nat → Nat → Int32)) (hf : m_markOf I A a0 = some (r, I1, A1)) : Met l yX3_markOf (ws_ yX3_markOf cX3_markOf 3 (some .int)) ({ frames := 7, cells := 0, slots := 0, locals := 146 }) (PcW D mS ad I A nR nG [.ref (ad 99), .int a0]) (QcW D mS ad I1 A1 nR nG (some (.int r))) 0 0 (frS mS ad) := by
  refine Met.ofW (cc := cX3_markOf) (maxL := 3) (ret := (some .int)) (by decide) rfl ?_
  intro p e s m args below meth c s₁ B hml hv
  obtain ⟨rfl, hK, hW⟩ := hv
  have hx := B.exec
  have hb := B.bytes
  have hr := B.returns
  have hts := atoms_spec (ws := (ws_ yX3_markOf cX3_markOf 3 (some .int))) B.pre
  have hts : ∀ w ∈ lw_all, w.before _ s = true := fun w h => hts w (List.mem_cons_of_mem _ h)
  have hown : s.vm.findClass RX3 = some m.cls := findClass_of_methodNamed B.named
  have hlocks := B.notSynchronized
  have hRf : 7 ≤ (headSpec (ws_ yX3_markOf cX3_markOf 3 (some .int)) ({ frames := 7, cells := 0, slots := 0, locals := 146 })).room.frames := Nat.le_refl _
  have hRl : 146 ≤ (headSpec (ws_ yX3_markOf cX3_markOf 3 (some .int)) ({ frames := 7, cells := 0, slots := 0, locals := 146 })).room.locals := Nat.le_refl _
  have hcs : 0 ≤ (headSpec (ws_ yX3_markOf cX3_markOf 3 (some .int)) ({ frames := 7, cells := 0, slots := 0, locals := 146 })).room.cells ∧ 0 ≤ (headSpec (ws_ yX3_markOf cX3_markOf 3 (some .int)) ({ frames := 7, cells := 0, slots := 0, locals := 146 })).room.slots := ⟨Nat.zero_le _, Nat.zero_le _⟩
  have hA : ∀ i ∈ idxS mS, frS mS ad (ad i) := fun i hi => ⟨i, hi, rfl⟩
  have hS : va_S (frS mS ad) s.heap s.heap [] := va_S.rf
  have hl := lv_entry ([.ref (ad 99), .int a0]) (n := 3) (Nat.le_of_ble_eq_true rfl)
  rw [lg_entry_eq]
  generalize (lg_sl ([.ref (ad 99), .int a0]) ++ List.replicate (3 - (lg_sl ([.ref (ad 99), .int a0])).length) Slot.unset).toArray = ls at hl ⊢
  have hl : lv_has ls 3 [(0, .ref (ad 99)), (1, .int a0)] := hl
  have hf : (ob1 (ldO (A 0) 2044 (10 + a0)) fun (v1 : Int32) =>
    if 4 ≤ v1 then (ob2 (m_leaves I A 23) fun (I3 : Nat → Int32) (A4 : Nat → Nat → Int32) =>
      ob3 (m_bareMark I3 A4 a0) fun (v5 : Int32) (I6 : Nat → Int32) (A7 : Nat → Nat → Int32) =>
      ob3 (m_sizeOf I6 A7 a0) fun (v8 : Int32) (I9 : Nat → Int32) (A10 : Nat → Nat → Int32) =>
      some (v5 - v8, I9, A10)) else (ob3 (m_markOfGrown I A a0) fun (v11 : Int32) (I12 : Nat → Int32) (A13 : Nat → Nat → Int32) =>
      some (v11, I12, A13))) = some (r, I1, A1) := hf
  refine lv_aload_n hx hb dX3_markOf_0 rfl (lv_at hl 0 rfl) ?_
  refine g_get (v := .ref (ad 0)) hx hb hts hown hK hW mO in_X3 rfl 0 (by decide) q1212 rfl rfl dX3_markOf_1 ?_
  refine lv_bipush (v := 10) hx hb dX3_markOf_4 (by decide) ?_
  refine lv_iload_n hx hb dX3_markOf_6 rfl (lv_at hl 1 rfl) ?_
  refine lv_iadd hx hb dX3_markOf_7 ?_
  obtain ⟨v1, hv1, hf⟩ := ob1_e hf
  refine g_iald hx hb hK hW mA0 hv1 dX3_markOf_8 ?_
  refine lv_iconst (v := 4) hx hb dX3_markOf_9 (by decide) ?_
  refine lv_icmp_ge (tgt := 19) hx hb dX3_markOf_10 (by decide) (fun c2 => ?_) (fun c2 => ?_)
  · rw [if_pos c2] at hf
    refine lv_aload_n hx hb dX3_markOf_19 rfl (lv_at hl 0 rfl) ?_
    refine lv_bipush (v := 23) hx hb dX3_markOf_20 (by decide) ?_
    obtain ⟨I3, A4, h4, hf⟩ := ob2_e hf
    refine g_vW (ov := none) (D := D) (Sc := mS) (adc := ad) (Ic := I) (Ac := A) (Rc := nR) (Gc := nG) (As := [.int 23]) (rest := []) (Ic1 := I3) (Ac1 := A4) (Rc1 := nR) (Gc1 := nG) (b := ad 99) (C := RX3) ⟨hx, hb, hml, hown, hts⟩ (m_leaves_met l D ad hI I A 23 I3 A4 h4) (g_cwV 1 hts (lw_V q1595 q1597 qs65 q82 q1598) rfl rfl m_leaves_ds ⟨Nat.le_trans (Nat.le_of_ble_eq_true rfl) hRf, Nat.le_trans (Nat.le_of_ble_eq_true rfl) hRl⟩) (g_recv hK hW mO rfl) hK hW hS hA hcs rfl hl.1 rfl (Nat.le_of_ble_eq_true rfl) dX3_markOf_22 (fun H locs hW _ hS => ?_)
    refine lv_aload_n hx hb dX3_markOf_25 rfl (lv_at hl 0 rfl) ?_
    refine lv_iload_n hx hb dX3_markOf_26 rfl (lv_at hl 1 rfl) ?_
    obtain ⟨v5, I6, A7, h7, hf⟩ := ob3_e hf
    refine g_vW (ov := some (.int v5)) (D := D) (Sc := mS) (adc := ad) (Ic := I3) (Ac := A4) (Rc := nR) (Gc := nG) (As := [.int a0]) (rest := []) (Ic1 := I6) (Ac1 := A7) (Rc1 := nR) (Gc1 := nG) (b := ad 99) (C := RX3) ⟨hx, hb, hml, hown, hts⟩ (m_bareMark_met l D ad hI I3 A4 a0 v5 I6 A7 h7) (g_cwV 1 hts (lw_V q1615 q1617 qs70 q82 q1618) rfl rfl m_bareMark_ds ⟨Nat.le_trans (Nat.le_of_ble_eq_true rfl) hRf, Nat.le_trans (Nat.le_of_ble_eq_true rfl) hRl⟩) (g_recv hK hW mO rfl) hK hW hS hA hcs rfl hl.1 rfl (Nat.le_of_ble_eq_true rfl) dX3_markOf_27 (fun H locs hW _ hS => ?_)
    refine lv_istore_n (lv' := [(2, .int v5), (0, .ref (ad 99)), (1, .int a0)]) hx hb dX3_markOf_30 rfl hl (by decide) rfl (fun ls hl => ?_)
    refine lv_iload_n hx hb dX3_markOf_31 rfl (lv_at hl 0 rfl) ?_
    refine lv_aload_n hx hb dX3_markOf_32 rfl (lv_at hl 1 rfl) ?_
    refine lv_iload_n hx hb dX3_markOf_33 rfl (lv_at hl 2 rfl) ?_
    obtain ⟨v8, I9, A10, h10, hf⟩ := ob3_e hf
    refine g_vW (ov := some (.int v8)) (D := D) (Sc := mS) (adc := ad) (Ic := I6) (Ac := A7) (Rc := nR) (Gc := nG) (As := [.int a0]) (rest := [.int v5]) (Ic1 := I9) (Ac1 := A10) (Rc1 := nR) (Gc1 := nG) (b := ad 99) (C := RX3) ⟨hx, hb, hml, hown, hts⟩ (m_sizeOf_met l D ad hI I6 A7 a0 v8 I9 A10 h10) (g_cwV 1 hts (lw_V q1591 q1593 qs64 q82 q1594) rfl rfl m_sizeOf_ds ⟨Nat.le_trans (Nat.le_of_ble_eq_true rfl) hRf, Nat.le_trans (Nat.le_of_ble_eq_true rfl) hRl⟩) (g_recv hK hW mO rfl) hK hW hS hA hcs rfl hl.1 rfl (Nat.le_of_ble_eq_true rfl) dX3_markOf_34 (fun H locs hW _ hS => ?_)
    refine lv_isub hx hb dX3_markOf_37 ?_
    obtain ⟨rfl, rfl, rfl⟩ := so3 hf
    exact W.iret hx hb hr (fun t ht _ => ⟨rfl, by rw [ht]; exact hW, hS.F ht⟩) hS.2.2 dX3_markOf_38
  · rw [if_neg c2] at hf
    refine lv_aload_n hx hb dX3_markOf_13 rfl (lv_at hl 0 rfl) ?_
    refine lv_iload_n hx hb dX3_markOf_14 rfl (lv_at hl 1 rfl) ?_
    obtain ⟨v11, I12, A13, h13, hf⟩ := ob3_e hf
    refine g_vW (ov := some (.int v11)) (D := D) (Sc := mS) (adc := ad) (Ic := I) (Ac := A) (Rc := nR) (Gc := nG) (As := [.int a0]) (rest := []) (Ic1 := I12) (Ac1 := A13) (Rc1 := nR) (Gc1 := nG) (b := ad 99) (C := RX3) ⟨hx, hb, hml, hown, hts⟩ (m_markOfGrown_met l D ad hI I A a0 v11 I12 A13 h13) (g_cwV 1 hts (lw_V q1607 q1609 qs68 q82 q1610) rfl rfl m_markOfGrown_ds ⟨Nat.le_trans (Nat.le_of_ble_eq_true rfl) hRf, Nat.le_trans (Nat.le_of_ble_eq_true rfl) hRl⟩) (g_recv hK hW mO rfl) hK hW hS hA hcs rfl hl.1 rfl (Nat.le_of_ble_eq_true rfl) dX3_markOf_15 (fun H locs hW _ hS => ?_)
    obtain ⟨rfl, rfl, rfl⟩ := so3 hf
    exact W.iret hx hb hr (fun t ht _ => ⟨rfl, by rw [ht]; exact hW, hS.F ht⟩) hS.2.2 dX3_markOf_18
theorem m_markOf_ds : yX3_markOf.cls = RX3 ∧ yX3_markOf.cls ≠ "java/lang/invoke/MethodHandle" ∧ yX3_markOf.cls ≠ "java/lang/invoke/VarHandle" ∧ (parseMethodDescriptor yX3_markOf.desc).map (fun d => d.parameters.length) = some 1 := by decide +kernel
/-! ask -/
def m_ask (I : Nat → Int32) (A : Nat → Nat → Int32) (a0 : Int32) (a1 : Int32) : Option (Int32 × (Nat → Int32) × (Nat → Nat → Int32)) :=
  ob1 (m_isPerson I A a0) fun (v1 : Int32) =>
  if v1 = 0 then (some ((-1000001), I, A)) else (ob1 (m_in a1.toInt64 0 1) fun (v3 : Int32) =>
    if v3 = 0 then (some ((-1000001), I, A)) else (ob3 (if a1 = 0 then (ob3 (m_sizeOf (upd I 23 0) A a0) fun (v12 : Int32) (I13 : Nat → Int32) (A14 : Nat → Nat → Int32) =>
          (some (v12, I13, A14) : Option (Int32 × (Nat → Int32) × (Nat → Nat → Int32)))) else (ob3 (m_markOf (upd I 23 0) A a0) fun (v9 : Int32) (I10 : Nat → Int32) (A11 : Nat → Nat → Int32) =>
          (some (v9, I10, A11) : Option (Int32 × (Nat → Int32) × (Nat → Nat → Int32))))) fun (v5 : Int32) (I6 : Nat → Int32) (A7 : Nat → Nat → Int32) =>
      some (v5, I6, A7)))
set_option maxRecDepth 100000 in
set_option maxHeartbeats 4000000 in
theorem m_ask_met (l : Launch) (D : dd_) (ad : Nat → Nat) (hI : Inj mS ad) (I : Nat → Int32) (A : Nat → Nat → Int32) (a0 : Int32) (a1 : Int32) (r : Int32) (I1 : (Nat → Int32)) (A1 : (Nat → Nat → Int32)) (hf : m_ask I A a0 a1 = some (r, I1, A1)) : Met l yX3_ask (ws_ yX3_ask cX3_ask 3 (some .int)) ({ frames := 8, cells := 0, slots := 0, locals := 168 }) (PcW D mS ad I A nR nG [.ref (ad 99), .int a0, .int a1]) (QcW D mS ad I1 A1 nR nG (some (.int r))) 0 0 (frS mS ad) := by
  refine Met.ofW (cc := cX3_ask) (maxL := 3) (ret := (some .int)) (by decide) rfl ?_
  intro p e s m args below meth c s₁ B hml hv
  obtain ⟨rfl, hK, hW⟩ := hv
  have hx := B.exec
  have hb := B.bytes
  have hr := B.returns
  have hts := atoms_spec (ws := (ws_ yX3_ask cX3_ask 3 (some .int))) B.pre
  have hts : ∀ w ∈ lw_all, w.before _ s = true := fun w h => hts w (List.mem_cons_of_mem _ h)
  have hown : s.vm.findClass RX3 = some m.cls := findClass_of_methodNamed B.named
  have hlocks := B.notSynchronized
  have hRf : 8 ≤ (headSpec (ws_ yX3_ask cX3_ask 3 (some .int)) ({ frames := 8, cells := 0, slots := 0, locals := 168 })).room.frames := Nat.le_refl _
  have hRl : 168 ≤ (headSpec (ws_ yX3_ask cX3_ask 3 (some .int)) ({ frames := 8, cells := 0, slots := 0, locals := 168 })).room.locals := Nat.le_refl _
  have hcs : 0 ≤ (headSpec (ws_ yX3_ask cX3_ask 3 (some .int)) ({ frames := 8, cells := 0, slots := 0, locals := 168 })).room.cells ∧ 0 ≤ (headSpec (ws_ yX3_ask cX3_ask 3 (some .int)) ({ frames := 8, cells := 0, slots := 0, locals := 168 })).room.slots := ⟨Nat.zero_le _, Nat.zero_le _⟩
  have hA : ∀ i ∈ idxS mS, frS mS ad (ad i) := fun i hi => ⟨i, hi, rfl⟩
  have hS : va_S (frS mS ad) s.heap s.heap [] := va_S.rf
  have hl := lv_entry ([.ref (ad 99), .int a0, .int a1]) (n := 3) (Nat.le_of_ble_eq_true rfl)
  rw [lg_entry_eq]
  generalize (lg_sl ([.ref (ad 99), .int a0, .int a1]) ++ List.replicate (3 - (lg_sl ([.ref (ad 99), .int a0, .int a1])).length) Slot.unset).toArray = ls at hl ⊢
  have hl : lv_has ls 3 [(0, .ref (ad 99)), (1, .int a0), (2, .int a1)] := hl
  have hf : (ob1 (m_isPerson I A a0) fun (v1 : Int32) =>
    if v1 = 0 then (some ((-1000001), I, A)) else (ob1 (m_in a1.toInt64 0 1) fun (v3 : Int32) =>
      if v3 = 0 then (some ((-1000001), I, A)) else (ob3 (if a1 = 0 then (ob3 (m_sizeOf (upd I 23 0) A a0) fun (v12 : Int32) (I13 : Nat → Int32) (A14 : Nat → Nat → Int32) =>
            (some (v12, I13, A14) : Option (Int32 × (Nat → Int32) × (Nat → Nat → Int32)))) else (ob3 (m_markOf (upd I 23 0) A a0) fun (v9 : Int32) (I10 : Nat → Int32) (A11 : Nat → Nat → Int32) =>
            (some (v9, I10, A11) : Option (Int32 × (Nat → Int32) × (Nat → Nat → Int32))))) fun (v5 : Int32) (I6 : Nat → Int32) (A7 : Nat → Nat → Int32) =>
        some (v5, I6, A7)))) = some (r, I1, A1) := hf
  refine lv_aload_n hx hb dX3_ask_0 rfl (lv_at hl 0 rfl) ?_
  refine lv_iload_n hx hb dX3_ask_1 rfl (lv_at hl 1 rfl) ?_
  obtain ⟨v1, h1, hf⟩ := ob1_e hf
  refine g_vR (ov := some (.int v1)) (D := D) (Sc := mS) (adc := ad) (Ic := I) (Ac := A) (Rc := nR) (Gc := nG) (As := [.int a0]) (rest := []) (b := ad 99) (C := RX3) ⟨hx, hb, hml, hown, hts⟩ (m_isPerson_met l D ad I A a0 v1 h1) (g_cwV 1 hts (lw_V q1396 q1398 qs46 q82 q1399) rfl rfl m_isPerson_ds ⟨Nat.le_trans (Nat.le_of_ble_eq_true rfl) hRf, Nat.le_trans (Nat.le_of_ble_eq_true rfl) hRl⟩) (g_recv hK hW mO rfl) hK hW hcs rfl hl.1 rfl (Nat.le_of_ble_eq_true rfl) dX3_ask_2 ?_
  refine lv_if_eq (tgt := 18) hx hb dX3_ask_5 (by decide) (fun c2 => ?_) (fun c2 => ?_)
  · rw [if_pos c2] at hf
    refine lv_ldc (v := (-1000001)) hx hb hown (hts _ q1298) dX3_ask_18 ?_
    obtain ⟨rfl, rfl, rfl⟩ := so3 hf
    exact W.iret hx hb hr (fun t ht _ => ⟨rfl, by rw [ht]; exact hW, hS.F ht⟩) hS.2.2 dX3_ask_20
  · rw [if_neg c2] at hf
    refine lv_iload_n hx hb dX3_ask_8 rfl (lv_at hl 2 rfl) ?_
    refine lv_i2l (v := a1.toInt64) hx hb dX3_ask_9 rfl ?_
    refine lv_lconst (v := 0) hx hb dX3_ask_10 (by decide) ?_
    refine lv_lconst (v := 1) hx hb dX3_ask_11 (by decide) ?_
    obtain ⟨v3, h3, hf⟩ := ob1_e hf
    refine g_sR (ov := some (.int v3)) (D := D) (Sc := nS) (adc := ad) (Ic := (fun _ => 0)) (Ac := (fun _ _ => 0)) (Rc := nR) (Gc := nG) (As := [.long a1.toInt64, .long 0, .long 1]) (rest := []) ⟨hx, hb, hml, hown, hts⟩ (m_in_met l D ad a1.toInt64 0 1 v3 h3) (va_cwS 3 hts (lw_S q1294 q1295 q82 q1296) rfl rfl rfl m_in_ds.2 ⟨Nat.le_trans (Nat.le_of_ble_eq_true rfl) hRf, Nat.le_trans (Nat.le_of_ble_eq_true rfl) hRl⟩) hK WH_nil hcs rfl hl.1 rfl (Nat.le_of_ble_eq_true rfl) dX3_ask_12 ?_
    refine lv_if_ne (tgt := 21) hx hb dX3_ask_15 (by decide) (fun c4 => ?_) (fun c4 => ?_)
    · rw [if_neg c4] at hf
      refine lv_aload_n hx hb dX3_ask_21 rfl (lv_at hl 0 rfl) ?_
      refine lv_iconst (v := 0) hx hb dX3_ask_22 (by decide) ?_
      refine g_putI hx hb hts hown hK mwf hI hA hW hS mO in_X3 tyX3 tyX3_ok nmX3 rfl 23 23 (by decide) rfl q1235 rfl rfl (by decide +kernel) dX3_ask_23 (fun H locs hW hS => ?_)
      refine lv_iload_n hx hb dX3_ask_26 rfl (lv_at hl 2 rfl) ?_
      obtain ⟨v5, I6, A7, hm7, hf⟩ := ob3_e hf
      refine w_cutH (A0 := frS mS ad) (H0 := s.heap) (X := WH D mS ad I6 A7 nR nG) (nL := 3) (L := []) (pcj := 43) (st := [.int v5]) (fun H locs ls hW hS hl => ?_) (fun K7 => ?_)
      · obtain ⟨rfl, rfl, rfl⟩ := so3 hf
        exact W.iret hx hb hr (fun t ht _ => ⟨rfl, by rw [ht]; exact hW, hS.F ht⟩) hS.2.2 dX3_ask_43
      · refine lv_if_ne (tgt := 38) hx hb dX3_ask_27 (by decide) (fun c8 => ?_) (fun c8 => ?_)
        · rw [if_neg c8] at hm7
          refine lv_aload_n hx hb dX3_ask_38 rfl (lv_at hl 0 rfl) ?_
          refine lv_iload_n hx hb dX3_ask_39 rfl (lv_at hl 1 rfl) ?_
          obtain ⟨v9, I10, A11, h11, hm7⟩ := ob3_e hm7
          refine g_vW (ov := some (.int v9)) (D := D) (Sc := mS) (adc := ad) (Ic := (upd I 23 0)) (Ac := A) (Rc := nR) (Gc := nG) (As := [.int a0]) (rest := []) (Ic1 := I10) (Ac1 := A11) (Rc1 := nR) (Gc1 := nG) (b := ad 99) (C := RX3) ⟨hx, hb, hml, hown, hts⟩ (m_markOf_met l D ad hI (upd I 23 0) A a0 v9 I10 A11 h11) (g_cwV 1 hts (lw_V q1623 q1625 qs72 q82 q1626) rfl rfl m_markOf_ds ⟨Nat.le_trans (Nat.le_of_ble_eq_true rfl) hRf, Nat.le_trans (Nat.le_of_ble_eq_true rfl) hRl⟩) (g_recv hK hW mO rfl) hK hW hS hA hcs rfl hl.1 rfl (Nat.le_of_ble_eq_true rfl) dX3_ask_40 (fun H locs hW _ hS => ?_)
          obtain ⟨rfl, rfl, rfl⟩ := so3 hm7
          exact K7 _ _ ls hW hS (lv_sub hl [] rfl)
        · rw [if_pos c8] at hm7
          refine lv_aload_n hx hb dX3_ask_30 rfl (lv_at hl 0 rfl) ?_
          refine lv_iload_n hx hb dX3_ask_31 rfl (lv_at hl 1 rfl) ?_
          obtain ⟨v12, I13, A14, h14, hm7⟩ := ob3_e hm7
          refine g_vW (ov := some (.int v12)) (D := D) (Sc := mS) (adc := ad) (Ic := (upd I 23 0)) (Ac := A) (Rc := nR) (Gc := nG) (As := [.int a0]) (rest := []) (Ic1 := I13) (Ac1 := A14) (Rc1 := nR) (Gc1 := nG) (b := ad 99) (C := RX3) ⟨hx, hb, hml, hown, hts⟩ (m_sizeOf_met l D ad hI (upd I 23 0) A a0 v12 I13 A14 h14) (g_cwV 1 hts (lw_V q1591 q1593 qs64 q82 q1594) rfl rfl m_sizeOf_ds ⟨Nat.le_trans (Nat.le_of_ble_eq_true rfl) hRf, Nat.le_trans (Nat.le_of_ble_eq_true rfl) hRl⟩) (g_recv hK hW mO rfl) hK hW hS hA hcs rfl hl.1 rfl (Nat.le_of_ble_eq_true rfl) dX3_ask_32 (fun H locs hW _ hS => ?_)
          refine lv_goto (tgt := 43) hx hb dX3_ask_35 (by decide) ?_
          obtain ⟨rfl, rfl, rfl⟩ := so3 hm7
          exact K7 _ _ ls hW hS (lv_sub hl [] rfl)
    · rw [if_pos c4] at hf
      refine lv_ldc (v := (-1000001)) hx hb hown (hts _ q1298) dX3_ask_18 ?_
      obtain ⟨rfl, rfl, rfl⟩ := so3 hf
      exact W.iret hx hb hr (fun t ht _ => ⟨rfl, by rw [ht]; exact hW, hS.F ht⟩) hS.2.2 dX3_ask_20
theorem m_ask_ds : yX3_ask.cls = RX3 ∧ yX3_ask.cls ≠ "java/lang/invoke/MethodHandle" ∧ yX3_ask.cls ≠ "java/lang/invoke/VarHandle" ∧ (parseMethodDescriptor yX3_ask.desc).map (fun d => d.parameters.length) = some 2 := by decide +kernel
/-! trace -/
def m_trace (I : Nat → Int32) (A : Nat → Nat → Int32) (a0 : Int32) : Option (Int32) :=
  ob1 (m_in a0.toInt64 0 (((I 23) - 1).toInt64)) fun (v1 : Int32) =>
  ob1 (if v1 = 0 then ((some (-1000000) : Option (Int32))) else (ob1 (ldO (A 22) 16 a0) fun (v4 : Int32) =>
      (some v4 : Option (Int32)))) fun (v2 : Int32) =>
  some v2
set_option maxRecDepth 100000 in
set_option maxHeartbeats 4000000 in
theorem m_trace_met (l : Launch) (D : dd_) (ad : Nat → Nat) (I : Nat → Int32) (A : Nat → Nat → Int32) (a0 : Int32) (r : Int32) (hf : m_trace I A a0 = some r) : Met l yX3_trace (ws_ yX3_trace cX3_trace 2 (some .int)) ({ frames := 2, cells := 0, slots := 0, locals := 41 }) (PcW D mS ad I A nR nG [.ref (ad 99), .int a0]) (QcR (some (.int r))) 0 0 (fun _ => False) := by
  refine Met.ofW (cc := cX3_trace) (maxL := 2) (ret := (some .int)) (by decide) rfl ?_
  intro p e s m args below meth c s₁ B hml hv
  obtain ⟨rfl, hK, hW⟩ := hv
  have hx := B.exec
  have hb := B.bytes
  have hr := B.returns
  have hts := atoms_spec (ws := (ws_ yX3_trace cX3_trace 2 (some .int))) B.pre
  have hts : ∀ w ∈ lw_all, w.before _ s = true := fun w h => hts w (List.mem_cons_of_mem _ h)
  have hown : s.vm.findClass RX3 = some m.cls := findClass_of_methodNamed B.named
  have hlocks := B.notSynchronized
  have hRf : 2 ≤ (headSpec (ws_ yX3_trace cX3_trace 2 (some .int)) ({ frames := 2, cells := 0, slots := 0, locals := 41 })).room.frames := Nat.le_refl _
  have hRl : 41 ≤ (headSpec (ws_ yX3_trace cX3_trace 2 (some .int)) ({ frames := 2, cells := 0, slots := 0, locals := 41 })).room.locals := Nat.le_refl _
  have hcs : 0 ≤ (headSpec (ws_ yX3_trace cX3_trace 2 (some .int)) ({ frames := 2, cells := 0, slots := 0, locals := 41 })).room.cells ∧ 0 ≤ (headSpec (ws_ yX3_trace cX3_trace 2 (some .int)) ({ frames := 2, cells := 0, slots := 0, locals := 41 })).room.slots := ⟨Nat.zero_le _, Nat.zero_le _⟩
  have hl := lv_entry ([.ref (ad 99), .int a0]) (n := 2) (Nat.le_of_ble_eq_true rfl)
  rw [lg_entry_eq]
  generalize (lg_sl ([.ref (ad 99), .int a0]) ++ List.replicate (2 - (lg_sl ([.ref (ad 99), .int a0])).length) Slot.unset).toArray = ls at hl ⊢
  have hl : lv_has ls 2 [(0, .ref (ad 99)), (1, .int a0)] := hl
  have hf : (ob1 (m_in a0.toInt64 0 (((I 23) - 1).toInt64)) fun (v1 : Int32) =>
    ob1 (if v1 = 0 then ((some (-1000000) : Option (Int32))) else (ob1 (ldO (A 22) 16 a0) fun (v4 : Int32) =>
        (some v4 : Option (Int32)))) fun (v2 : Int32) =>
    some v2) = some r := hf
  refine lv_iload_n hx hb dX3_trace_0 rfl (lv_at hl 1 rfl) ?_
  refine lv_i2l (v := a0.toInt64) hx hb dX3_trace_1 rfl ?_
  refine lv_lconst (v := 0) hx hb dX3_trace_2 (by decide) ?_
  refine lv_aload_n hx hb dX3_trace_3 rfl (lv_at hl 0 rfl) ?_
  refine g_get (v := .int (I 23)) hx hb hts hown hK hW mO in_X3 rfl 23 (by decide) q1235 rfl rfl dX3_trace_4 ?_
  refine lv_iconst (v := 1) hx hb dX3_trace_7 (by decide) ?_
  refine lv_isub hx hb dX3_trace_8 ?_
  refine lv_i2l (v := ((I 23) - 1).toInt64) hx hb dX3_trace_9 rfl ?_
  obtain ⟨v1, h1, hf⟩ := ob1_e hf
  refine g_sR (ov := some (.int v1)) (D := D) (Sc := nS) (adc := ad) (Ic := (fun _ => 0)) (Ac := (fun _ _ => 0)) (Rc := nR) (Gc := nG) (As := [.long a0.toInt64, .long 0, .long (((I 23) - 1).toInt64)]) (rest := []) ⟨hx, hb, hml, hown, hts⟩ (m_in_met l D ad a0.toInt64 0 (((I 23) - 1).toInt64) v1 h1) (va_cwS 3 hts (lw_S q1294 q1295 q82 q1296) rfl rfl rfl m_in_ds.2 ⟨Nat.le_trans (Nat.le_of_ble_eq_true rfl) hRf, Nat.le_trans (Nat.le_of_ble_eq_true rfl) hRl⟩) hK WH_nil hcs rfl hl.1 rfl (Nat.le_of_ble_eq_true rfl) dX3_trace_10 ?_
  obtain ⟨v2, hm2, hf⟩ := ob1_e hf
  refine w_cutL (nL := 2) (L := []) (pcj := 27) (st := [.int v2]) (fun ls hl => ?_) (fun K2 => ?_)
  · obtain rfl := so1 hf
    exact W.iret hx hb hr (fun t ht _ => ⟨rfl, ht⟩) (fun q hq => by cases hq) dX3_trace_27
  · refine lv_if_eq (tgt := 25) hx hb dX3_trace_13 (by decide) (fun c3 => ?_) (fun c3 => ?_)
    · rw [if_pos c3] at hm2
      refine lv_ldc (v := (-1000000)) hx hb hown (hts _ q1492) dX3_trace_25 ?_
      obtain rfl := so1 hm2
      exact K2 ls (lv_sub hl [] rfl)
    · rw [if_neg c3] at hm2
      refine lv_aload_n hx hb dX3_trace_16 rfl (lv_at hl 0 rfl) ?_
      refine g_get (v := .ref (ad 22)) hx hb hts hown hK hW mO in_X3 rfl 22 (by decide) q1234 rfl rfl dX3_trace_17 ?_
      refine lv_iload_n hx hb dX3_trace_20 rfl (lv_at hl 1 rfl) ?_
      obtain ⟨v4, hv4, hm2⟩ := ob1_e hm2
      refine g_iald hx hb hK hW mA22 hv4 dX3_trace_21 ?_
      refine lv_goto (tgt := 27) hx hb dX3_trace_22 (by decide) ?_
      obtain rfl := so1 hm2
      exact K2 ls (lv_sub hl [] rfl)
theorem m_trace_ds : yX3_trace.cls = RX3 ∧ yX3_trace.cls ≠ "java/lang/invoke/MethodHandle" ∧ yX3_trace.cls ≠ "java/lang/invoke/VarHandle" ∧ (parseMethodDescriptor yX3_trace.desc).map (fun d => d.parameters.length) = some 1 := by decide +kernel
/-! rowsMany -/
def m_rowsMany_L4 (I : Nat → Int32) (A : Nat → Nat → Int32) : Nat → Int32 → Int32 → Option (Int32 × Int32)
  | 0, _, _ => none
  | n + 1, x1, x2 =>
    if 8 ≤ x2 then (some (x1, x2)) else (ob1 (ldO (A 3) 8 x2) fun (v2 : Int32) =>
      ob1 (if 0 ≤ v2 then ((some 1 : Option (Int32))) else ((some 0 : Option (Int32)))) fun (v3 : Int32) =>
      m_rowsMany_L4 I A n (x1 + v3) (x2 + 1))
set_option maxRecDepth 100000 in
set_option maxHeartbeats 4000000 in
theorem m_rowsMany_L4_w {p : Program} {l : Launch} {e : Env} {R0 : Room} {s : State} {m : MethodId} {args : Array Value} {below : List Frame} {meth : Method} {c : Code} {cells slots : Nat} {Q : State → Prop} {D : dd_} {ad : Nat → Nat} (hx : p.tables.exec = Jvm.exec) (hb : c.code = cX3_rowsMany) (hml : c.maxLocals = 3) (hown : s.vm.findClass RX3 = some m.cls) (hts : ∀ w ∈ lw_all, w.before args s = true) (hK : Kx D s) (hRf : 1 ≤ R0.frames) (hRl : 16 ≤ R0.locals) (hcs : cells ≤ R0.cells ∧ slots ≤ R0.slots) {H : Heap} {locs : List Loc} (I : Nat → Int32) (A : Nat → Nat → Int32) (hW : WH D mS ad I A nR nG H) (y1 : Int32) (y2 : Int32) (KX : ∀ (ls : Array Slot), lv_has ls 3 [(1, .int y1)] → W p l e R0 s m args below meth c H locs cells slots Q (F0 m 33 ls [])) : ∀ (n : Nat) (x1 : Int32) (x2 : Int32) (ls : Array Slot), m_rowsMany_L4 I A n x1 x2 = some (y1, y2) → lv_has ls 3 [(0, .ref (ad 99)), (1, .int x1), (2, .int x2)] → W p l e R0 s m args below meth c H locs cells slots Q (F0 m 4 ls []) := by
  intro n
  induction n with
  | zero =>
    intro x1 x2 ls hf
    exact nomatch (show (none : Option (Int32 × Int32)) = some (y1, y2) from hf)
  | succ n ih =>
    intro x1 x2 ls hf hl
    have hf : (if 8 ≤ x2 then (some (x1, x2)) else (ob1 (ldO (A 3) 8 x2) fun (v2 : Int32) =>
          ob1 (if 0 ≤ v2 then ((some 1 : Option (Int32))) else ((some 0 : Option (Int32)))) fun (v3 : Int32) =>
          m_rowsMany_L4 I A n (x1 + v3) (x2 + 1))) = some (y1, y2) := hf
    refine lv_iload_n hx hb dX3_rowsMany_4 rfl (lv_at hl 2 rfl) ?_
    refine lv_bipush (v := 8) hx hb dX3_rowsMany_5 (by decide) ?_
    refine lv_icmp_ge (tgt := 33) hx hb dX3_rowsMany_7 (by decide) (fun c1 => ?_) (fun c1 => ?_)
    · rw [if_pos c1] at hf
      obtain ⟨rfl, rfl⟩ := so2 hf
      exact KX ls (lv_sub hl [1] rfl)
    · rw [if_neg c1] at hf
      refine lv_iload_n hx hb dX3_rowsMany_10 rfl (lv_at hl 1 rfl) ?_
      refine lv_aload_n hx hb dX3_rowsMany_11 rfl (lv_at hl 0 rfl) ?_
      refine g_get (v := .ref (ad 3)) hx hb hts hown hK hW mO in_X3 rfl 3 (by decide) q1215 rfl rfl dX3_rowsMany_12 ?_
      refine lv_iload_n hx hb dX3_rowsMany_15 rfl (lv_at hl 2 rfl) ?_
      obtain ⟨v2, hv2, hf⟩ := ob1_e hf
      refine g_iald hx hb hK hW mA3 hv2 dX3_rowsMany_16 ?_
      obtain ⟨v3, hm3, hf⟩ := ob1_e hf
      refine w_cutL (nL := 3) (L := [(0, .ref (ad 99)), (2, .int x2)]) (pcj := 25) (st := [.int v3, .int x1]) (fun ls hl => ?_) (fun K3 => ?_)
      · refine lv_iadd hx hb dX3_rowsMany_25 ?_
        refine lv_istore_n (lv' := [(1, .int (x1 + v3)), (0, .ref (ad 99)), (2, .int x2)]) hx hb dX3_rowsMany_26 rfl hl (by decide) rfl (fun ls hl => ?_)
        refine lv_iinc (v := x2 + 1) (lv' := [(2, .int (x2 + 1)), (1, .int (x1 + v3)), (0, .ref (ad 99))]) hx hb dX3_rowsMany_27 hl (k := 2) rfl (by rfl) (by decide) rfl (fun ls hl => ?_)
        refine lv_goto (tgt := 4) hx hb dX3_rowsMany_30 (by decide) ?_
        exact ih (x1 + v3) (x2 + 1) ls hf (lv_sub hl [2, 1, 0] rfl)
      · refine lv_if_ge (tgt := 24) hx hb dX3_rowsMany_17 (by decide) (fun c4 => ?_) (fun c4 => ?_)
        · rw [if_pos c4] at hm3
          refine lv_iconst (v := 1) hx hb dX3_rowsMany_24 (by decide) ?_
          obtain rfl := so1 hm3
          exact K3 ls (lv_sub hl [0, 2] rfl)
        · rw [if_neg c4] at hm3
          refine lv_iconst (v := 0) hx hb dX3_rowsMany_20 (by decide) ?_
          refine lv_goto (tgt := 25) hx hb dX3_rowsMany_21 (by decide) ?_
          obtain rfl := so1 hm3
          exact K3 ls (lv_sub hl [0, 2] rfl)
def m_rowsMany (I : Nat → Int32) (A : Nat → Nat → Int32) : Option (Int32) :=
  ob2 (m_rowsMany_L4 I A NF 0 0) fun (v1 : Int32) (v2 : Int32) =>
  some v1
set_option maxRecDepth 100000 in
set_option maxHeartbeats 4000000 in
theorem m_rowsMany_met (l : Launch) (D : dd_) (ad : Nat → Nat) (I : Nat → Int32) (A : Nat → Nat → Int32) (r : Int32) (hf : m_rowsMany I A  = some r) : Met l yX3_rowsMany (ws_ yX3_rowsMany cX3_rowsMany 3 (some .int)) ({ frames := 1, cells := 0, slots := 0, locals := 16 }) (PcW D mS ad I A nR nG [.ref (ad 99)]) (QcR (some (.int r))) 0 0 (fun _ => False) := by
  refine Met.ofW (cc := cX3_rowsMany) (maxL := 3) (ret := (some .int)) (by decide) rfl ?_
  intro p e s m args below meth c s₁ B hml hv
  obtain ⟨rfl, hK, hW⟩ := hv
  have hx := B.exec
  have hb := B.bytes
  have hr := B.returns
  have hts := atoms_spec (ws := (ws_ yX3_rowsMany cX3_rowsMany 3 (some .int))) B.pre
  have hts : ∀ w ∈ lw_all, w.before _ s = true := fun w h => hts w (List.mem_cons_of_mem _ h)
  have hown : s.vm.findClass RX3 = some m.cls := findClass_of_methodNamed B.named
  have hlocks := B.notSynchronized
  have hRf : 1 ≤ (headSpec (ws_ yX3_rowsMany cX3_rowsMany 3 (some .int)) ({ frames := 1, cells := 0, slots := 0, locals := 16 })).room.frames := Nat.le_refl _
  have hRl : 16 ≤ (headSpec (ws_ yX3_rowsMany cX3_rowsMany 3 (some .int)) ({ frames := 1, cells := 0, slots := 0, locals := 16 })).room.locals := Nat.le_refl _
  have hcs : 0 ≤ (headSpec (ws_ yX3_rowsMany cX3_rowsMany 3 (some .int)) ({ frames := 1, cells := 0, slots := 0, locals := 16 })).room.cells ∧ 0 ≤ (headSpec (ws_ yX3_rowsMany cX3_rowsMany 3 (some .int)) ({ frames := 1, cells := 0, slots := 0, locals := 16 })).room.slots := ⟨Nat.zero_le _, Nat.zero_le _⟩
  have hl := lv_entry ([.ref (ad 99)]) (n := 3) (Nat.le_of_ble_eq_true rfl)
  rw [lg_entry_eq]
  generalize (lg_sl ([.ref (ad 99)]) ++ List.replicate (3 - (lg_sl ([.ref (ad 99)])).length) Slot.unset).toArray = ls at hl ⊢
  have hl : lv_has ls 3 [(0, .ref (ad 99))] := hl
  have hf : (ob2 (m_rowsMany_L4 I A NF 0 0) fun (v1 : Int32) (v2 : Int32) =>
    some v1) = some r := hf
  refine lv_iconst (v := 0) hx hb dX3_rowsMany_0 (by decide) ?_
  refine lv_istore_n (lv' := [(1, .int 0), (0, .ref (ad 99))]) hx hb dX3_rowsMany_1 rfl hl (by decide) rfl (fun ls hl => ?_)
  refine lv_iconst (v := 0) hx hb dX3_rowsMany_2 (by decide) ?_
  refine lv_istore_n (lv' := [(2, .int 0), (1, .int 0), (0, .ref (ad 99))]) hx hb dX3_rowsMany_3 rfl hl (by decide) rfl (fun ls hl => ?_)
  obtain ⟨v1, v2, hq2, hf⟩ := ob2_e hf
  refine m_rowsMany_L4_w hx hb hml hown hts hK hRf hRl hcs I A hW v1 v2 (fun ls hl => ?_) NF 0 0 ls hq2 (lv_sub hl [2, 1, 0] rfl)
  refine lv_iload_n hx hb dX3_rowsMany_33 rfl (lv_at hl 0 rfl) ?_
  obtain rfl := so1 hf
  exact W.iret hx hb hr (fun t ht _ => ⟨rfl, ht⟩) (fun q hq => by cases hq) dX3_rowsMany_34
theorem m_rowsMany_ds : yX3_rowsMany.cls = RX3 ∧ yX3_rowsMany.cls ≠ "java/lang/invoke/MethodHandle" ∧ yX3_rowsMany.cls ≠ "java/lang/invoke/VarHandle" ∧ (parseMethodDescriptor yX3_rowsMany.desc).map (fun d => d.parameters.length) = some 0 := by decide +kernel
