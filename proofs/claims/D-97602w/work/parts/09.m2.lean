/-! give -/
def m_give (I : Nat → Int32) (A : Nat → Nat → Int32) (a0 : Int32) (a1 : Int32) (a2 : Int32) (a3 : Int32) (a4 : Int32) : Option (Int32 × (Nat → Int32) × (Nat → Nat → Int32)) :=
  ob1 (m_isPerson I A a0) fun (v1 : Int32) =>
  if v1 = 0 then (some ((-1000001), I, A)) else (ob1 (m_isPerson I A a1) fun (v3 : Int32) =>
    if v3 = 0 then (some ((-1000001), I, A)) else (if a0 = a1 then (some ((-1000001), I, A)) else (ob1 (m_in a2.toInt64 1 20) fun (v6 : Int32) =>
        if v6 = 0 then (some ((-1000001), I, A)) else (ob1 (m_in a3.toInt64 0 99) fun (v8 : Int32) =>
          if v8 = 0 then (some ((-1000001), I, A)) else (ob1 (m_in a4.toInt64 0 5) fun (v10 : Int32) =>
            if v10 = 0 then (some ((-1000001), I, A)) else (ob1 (ldO (A 0) 2044 7) fun (v12 : Int32) =>
              if v12 = 8 then (some ((-1000003), I, A)) else (ob2 (m_minds I A ) fun (I14 : Nat → Int32) (A15 : Nat → Nat → Int32) =>
                ob1 (stO (A15 0) 2044 (25 + v12) a0) fun (f16 : Nat → Int32) =>
                ob1 (stO ((va_up A15 0 f16) 0) 2044 (33 + v12) a1) fun (f17 : Nat → Int32) =>
                ob1 (stO ((va_up (va_up A15 0 f16) 0 f17) 0) 2044 (41 + v12) a2) fun (f18 : Nat → Int32) =>
                ob1 (stO ((va_up (va_up (va_up A15 0 f16) 0 f17) 0 f18) 0) 2044 (49 + v12) a3) fun (f19 : Nat → Int32) =>
                ob1 (stO ((va_up (va_up (va_up (va_up A15 0 f16) 0 f17) 0 f18) 0 f19) 0) 2044 (57 + v12) a4) fun (f20 : Nat → Int32) =>
                ob1 (stO ((va_up (va_up (va_up (va_up (va_up A15 0 f16) 0 f17) 0 f18) 0 f19) 0 f20) 0) 2044 (65 + v12) 0) fun (f21 : Nat → Int32) =>
                ob1 (ldO ((va_up (va_up (va_up (va_up (va_up (va_up A15 0 f16) 0 f17) 0 f18) 0 f19) 0 f20) 0 f21) 0) 2044 7) fun (v22 : Int32) =>
                ob1 (stO ((va_up (va_up (va_up (va_up (va_up (va_up A15 0 f16) 0 f17) 0 f18) 0 f19) 0 f20) 0 f21) 0) 2044 7 (v22 + 1)) fun (f23 : Nat → Int32) =>
                some (v12, I14, va_up (va_up (va_up (va_up (va_up (va_up (va_up A15 0 f16) 0 f17) 0 f18) 0 f19) 0 f20) 0 f21) 0 f23))))))))
set_option maxRecDepth 100000 in
set_option maxHeartbeats 4000000 in
theorem m_give_met (l : Launch) (D : dd_) (ad : Nat → Nat) (hI : Inj mS ad) (I : Nat → Int32) (A : Nat → Nat → Int32) (a0 : Int32) (a1 : Int32) (a2 : Int32) (a3 : Int32) (a4 : Int32) (r : Int32) (I1 : (Nat → Int32)) (A1 : (Nat → Nat → Int32)) (hf : m_give I A a0 a1 a2 a3 a4 = some (r, I1, A1)) : Met l yX3_give (ws_ yX3_give cX3_give 7 (some .int)) ({ frames := 3, cells := 0, slots := 0, locals := 62 }) (PcW D mS ad I A nR nG [.ref (ad 99), .int a0, .int a1, .int a2, .int a3, .int a4]) (QcW D mS ad I1 A1 nR nG (some (.int r))) 0 0 (frS mS ad) := by
  refine Met.ofW (cc := cX3_give) (maxL := 7) (ret := (some .int)) (by decide) rfl ?_
  intro p e s m args below meth c s₁ B hml hv
  obtain ⟨rfl, hK, hW⟩ := hv
  have hx := B.exec
  have hb := B.bytes
  have hr := B.returns
  have hts := atoms_spec (ws := (ws_ yX3_give cX3_give 7 (some .int))) B.pre
  have hts : ∀ w ∈ lw_all, w.before _ s = true := fun w h => hts w (List.mem_cons_of_mem _ h)
  have hown : s.vm.findClass RX3 = some m.cls := findClass_of_methodNamed B.named
  have hlocks := B.notSynchronized
  have hRf : 3 ≤ (headSpec (ws_ yX3_give cX3_give 7 (some .int)) ({ frames := 3, cells := 0, slots := 0, locals := 62 })).room.frames := Nat.le_refl _
  have hRl : 62 ≤ (headSpec (ws_ yX3_give cX3_give 7 (some .int)) ({ frames := 3, cells := 0, slots := 0, locals := 62 })).room.locals := Nat.le_refl _
  have hcs : 0 ≤ (headSpec (ws_ yX3_give cX3_give 7 (some .int)) ({ frames := 3, cells := 0, slots := 0, locals := 62 })).room.cells ∧ 0 ≤ (headSpec (ws_ yX3_give cX3_give 7 (some .int)) ({ frames := 3, cells := 0, slots := 0, locals := 62 })).room.slots := ⟨Nat.zero_le _, Nat.zero_le _⟩
  have hA : ∀ i ∈ idxS mS, frS mS ad (ad i) := fun i hi => ⟨i, hi, rfl⟩
  have hS : va_S (frS mS ad) s.heap s.heap [] := va_S.rf
  have hl := lv_entry ([.ref (ad 99), .int a0, .int a1, .int a2, .int a3, .int a4]) (n := 7) (Nat.le_of_ble_eq_true rfl)
  rw [lg_entry_eq]
  generalize (lg_sl ([.ref (ad 99), .int a0, .int a1, .int a2, .int a3, .int a4]) ++ List.replicate (7 - (lg_sl ([.ref (ad 99), .int a0, .int a1, .int a2, .int a3, .int a4])).length) Slot.unset).toArray = ls at hl ⊢
  have hl : lv_has ls 7 [(0, .ref (ad 99)), (1, .int a0), (2, .int a1), (3, .int a2), (4, .int a3), (5, .int a4)] := hl
  have hf : (ob1 (m_isPerson I A a0) fun (v1 : Int32) =>
    if v1 = 0 then (some ((-1000001), I, A)) else (ob1 (m_isPerson I A a1) fun (v3 : Int32) =>
      if v3 = 0 then (some ((-1000001), I, A)) else (if a0 = a1 then (some ((-1000001), I, A)) else (ob1 (m_in a2.toInt64 1 20) fun (v6 : Int32) =>
          if v6 = 0 then (some ((-1000001), I, A)) else (ob1 (m_in a3.toInt64 0 99) fun (v8 : Int32) =>
            if v8 = 0 then (some ((-1000001), I, A)) else (ob1 (m_in a4.toInt64 0 5) fun (v10 : Int32) =>
              if v10 = 0 then (some ((-1000001), I, A)) else (ob1 (ldO (A 0) 2044 7) fun (v12 : Int32) =>
                if v12 = 8 then (some ((-1000003), I, A)) else (ob2 (m_minds I A ) fun (I14 : Nat → Int32) (A15 : Nat → Nat → Int32) =>
                  ob1 (stO (A15 0) 2044 (25 + v12) a0) fun (f16 : Nat → Int32) =>
                  ob1 (stO ((va_up A15 0 f16) 0) 2044 (33 + v12) a1) fun (f17 : Nat → Int32) =>
                  ob1 (stO ((va_up (va_up A15 0 f16) 0 f17) 0) 2044 (41 + v12) a2) fun (f18 : Nat → Int32) =>
                  ob1 (stO ((va_up (va_up (va_up A15 0 f16) 0 f17) 0 f18) 0) 2044 (49 + v12) a3) fun (f19 : Nat → Int32) =>
                  ob1 (stO ((va_up (va_up (va_up (va_up A15 0 f16) 0 f17) 0 f18) 0 f19) 0) 2044 (57 + v12) a4) fun (f20 : Nat → Int32) =>
                  ob1 (stO ((va_up (va_up (va_up (va_up (va_up A15 0 f16) 0 f17) 0 f18) 0 f19) 0 f20) 0) 2044 (65 + v12) 0) fun (f21 : Nat → Int32) =>
                  ob1 (ldO ((va_up (va_up (va_up (va_up (va_up (va_up A15 0 f16) 0 f17) 0 f18) 0 f19) 0 f20) 0 f21) 0) 2044 7) fun (v22 : Int32) =>
                  ob1 (stO ((va_up (va_up (va_up (va_up (va_up (va_up A15 0 f16) 0 f17) 0 f18) 0 f19) 0 f20) 0 f21) 0) 2044 7 (v22 + 1)) fun (f23 : Nat → Int32) =>
                  some (v12, I14, va_up (va_up (va_up (va_up (va_up (va_up (va_up A15 0 f16) 0 f17) 0 f18) 0 f19) 0 f20) 0 f21) 0 f23))))))))) = some (r, I1, A1) := hf
  refine lv_aload_n hx hb dX3_give_0 rfl (lv_at hl 0 rfl) ?_
  refine lv_iload_n hx hb dX3_give_1 rfl (lv_at hl 1 rfl) ?_
  obtain ⟨v1, h1, hf⟩ := ob1_e hf
  refine g_vR (ov := some (.int v1)) (D := D) (Sc := mS) (adc := ad) (Ic := I) (Ac := A) (Rc := nR) (Gc := nG) (As := [.int a0]) (rest := []) (b := ad 99) (C := RX3) ⟨hx, hb, hml, hown, hts⟩ (m_isPerson_met l D ad I A a0 v1 h1) (g_cwV 1 hts (lw_V q1396 q1398 qs46 q82 q1399) rfl rfl m_isPerson_ds ⟨Nat.le_trans (Nat.le_of_ble_eq_true rfl) hRf, Nat.le_trans (Nat.le_of_ble_eq_true rfl) hRl⟩) (g_recv hK hW mO rfl) hK hW hcs rfl hl.1 rfl (Nat.le_of_ble_eq_true rfl) dX3_give_2 ?_
  refine lv_if_eq (tgt := 59) hx hb dX3_give_5 (by decide) (fun c2 => ?_) (fun c2 => ?_)
  · rw [if_pos c2] at hf
    refine lv_ldc (v := (-1000001)) hx hb hown (hts _ q1298) dX3_give_59 ?_
    obtain ⟨rfl, rfl, rfl⟩ := so3 hf
    exact W.iret hx hb hr (fun t ht _ => ⟨rfl, by rw [ht]; exact hW, hS.F ht⟩) hS.2.2 dX3_give_61
  · rw [if_neg c2] at hf
    refine lv_aload_n hx hb dX3_give_8 rfl (lv_at hl 0 rfl) ?_
    refine lv_iload_n hx hb dX3_give_9 rfl (lv_at hl 2 rfl) ?_
    obtain ⟨v3, h3, hf⟩ := ob1_e hf
    refine g_vR (ov := some (.int v3)) (D := D) (Sc := mS) (adc := ad) (Ic := I) (Ac := A) (Rc := nR) (Gc := nG) (As := [.int a1]) (rest := []) (b := ad 99) (C := RX3) ⟨hx, hb, hml, hown, hts⟩ (m_isPerson_met l D ad I A a1 v3 h3) (g_cwV 1 hts (lw_V q1396 q1398 qs46 q82 q1399) rfl rfl m_isPerson_ds ⟨Nat.le_trans (Nat.le_of_ble_eq_true rfl) hRf, Nat.le_trans (Nat.le_of_ble_eq_true rfl) hRl⟩) (g_recv hK hW mO rfl) hK hW hcs rfl hl.1 rfl (Nat.le_of_ble_eq_true rfl) dX3_give_10 ?_
    refine lv_if_eq (tgt := 59) hx hb dX3_give_13 (by decide) (fun c4 => ?_) (fun c4 => ?_)
    · rw [if_pos c4] at hf
      refine lv_ldc (v := (-1000001)) hx hb hown (hts _ q1298) dX3_give_59 ?_
      obtain ⟨rfl, rfl, rfl⟩ := so3 hf
      exact W.iret hx hb hr (fun t ht _ => ⟨rfl, by rw [ht]; exact hW, hS.F ht⟩) hS.2.2 dX3_give_61
    · rw [if_neg c4] at hf
      refine lv_iload_n hx hb dX3_give_16 rfl (lv_at hl 1 rfl) ?_
      refine lv_iload_n hx hb dX3_give_17 rfl (lv_at hl 2 rfl) ?_
      refine lv_icmp_eq (tgt := 59) hx hb dX3_give_18 (by decide) (fun c5 => ?_) (fun c5 => ?_)
      · rw [if_pos c5] at hf
        refine lv_ldc (v := (-1000001)) hx hb hown (hts _ q1298) dX3_give_59 ?_
        obtain ⟨rfl, rfl, rfl⟩ := so3 hf
        exact W.iret hx hb hr (fun t ht _ => ⟨rfl, by rw [ht]; exact hW, hS.F ht⟩) hS.2.2 dX3_give_61
      · rw [if_neg c5] at hf
        refine lv_iload_n hx hb dX3_give_21 rfl (lv_at hl 3 rfl) ?_
        refine lv_i2l (v := a2.toInt64) hx hb dX3_give_22 rfl ?_
        refine lv_lconst (v := 1) hx hb dX3_give_23 (by decide) ?_
        refine lv_ldc2 (v := 20) hx hb hown (hts _ q1428) dX3_give_24 ?_
        obtain ⟨v6, h6, hf⟩ := ob1_e hf
        refine g_sR (ov := some (.int v6)) (D := D) (Sc := nS) (adc := ad) (Ic := (fun _ => 0)) (Ac := (fun _ _ => 0)) (Rc := nR) (Gc := nG) (As := [.long a2.toInt64, .long 1, .long 20]) (rest := []) ⟨hx, hb, hml, hown, hts⟩ (m_in_met l D ad a2.toInt64 1 20 v6 h6) (va_cwS 3 hts (lw_S q1294 q1295 q82 q1296) rfl rfl rfl m_in_ds.2 ⟨Nat.le_trans (Nat.le_of_ble_eq_true rfl) hRf, Nat.le_trans (Nat.le_of_ble_eq_true rfl) hRl⟩) hK WH_nil hcs rfl hl.1 rfl (Nat.le_of_ble_eq_true rfl) dX3_give_27 ?_
        refine lv_if_eq (tgt := 59) hx hb dX3_give_30 (by decide) (fun c7 => ?_) (fun c7 => ?_)
        · rw [if_pos c7] at hf
          refine lv_ldc (v := (-1000001)) hx hb hown (hts _ q1298) dX3_give_59 ?_
          obtain ⟨rfl, rfl, rfl⟩ := so3 hf
          exact W.iret hx hb hr (fun t ht _ => ⟨rfl, by rw [ht]; exact hW, hS.F ht⟩) hS.2.2 dX3_give_61
        · rw [if_neg c7] at hf
          refine lv_iload hx hb dX3_give_33 (lv_at hl 4 rfl) ?_
          refine lv_i2l (v := a3.toInt64) hx hb dX3_give_35 rfl ?_
          refine lv_lconst (v := 0) hx hb dX3_give_36 (by decide) ?_
          refine lv_ldc2 (v := 99) hx hb hown (hts _ q1429) dX3_give_37 ?_
          obtain ⟨v8, h8, hf⟩ := ob1_e hf
          refine g_sR (ov := some (.int v8)) (D := D) (Sc := nS) (adc := ad) (Ic := (fun _ => 0)) (Ac := (fun _ _ => 0)) (Rc := nR) (Gc := nG) (As := [.long a3.toInt64, .long 0, .long 99]) (rest := []) ⟨hx, hb, hml, hown, hts⟩ (m_in_met l D ad a3.toInt64 0 99 v8 h8) (va_cwS 3 hts (lw_S q1294 q1295 q82 q1296) rfl rfl rfl m_in_ds.2 ⟨Nat.le_trans (Nat.le_of_ble_eq_true rfl) hRf, Nat.le_trans (Nat.le_of_ble_eq_true rfl) hRl⟩) hK WH_nil hcs rfl hl.1 rfl (Nat.le_of_ble_eq_true rfl) dX3_give_40 ?_
          refine lv_if_eq (tgt := 59) hx hb dX3_give_43 (by decide) (fun c9 => ?_) (fun c9 => ?_)
          · rw [if_pos c9] at hf
            refine lv_ldc (v := (-1000001)) hx hb hown (hts _ q1298) dX3_give_59 ?_
            obtain ⟨rfl, rfl, rfl⟩ := so3 hf
            exact W.iret hx hb hr (fun t ht _ => ⟨rfl, by rw [ht]; exact hW, hS.F ht⟩) hS.2.2 dX3_give_61
          · rw [if_neg c9] at hf
            refine lv_iload hx hb dX3_give_46 (lv_at hl 5 rfl) ?_
            refine lv_i2l (v := a4.toInt64) hx hb dX3_give_48 rfl ?_
            refine lv_lconst (v := 0) hx hb dX3_give_49 (by decide) ?_
            refine lv_ldc2 (v := 5) hx hb hown (hts _ q1404) dX3_give_50 ?_
            obtain ⟨v10, h10, hf⟩ := ob1_e hf
            refine g_sR (ov := some (.int v10)) (D := D) (Sc := nS) (adc := ad) (Ic := (fun _ => 0)) (Ac := (fun _ _ => 0)) (Rc := nR) (Gc := nG) (As := [.long a4.toInt64, .long 0, .long 5]) (rest := []) ⟨hx, hb, hml, hown, hts⟩ (m_in_met l D ad a4.toInt64 0 5 v10 h10) (va_cwS 3 hts (lw_S q1294 q1295 q82 q1296) rfl rfl rfl m_in_ds.2 ⟨Nat.le_trans (Nat.le_of_ble_eq_true rfl) hRf, Nat.le_trans (Nat.le_of_ble_eq_true rfl) hRl⟩) hK WH_nil hcs rfl hl.1 rfl (Nat.le_of_ble_eq_true rfl) dX3_give_53 ?_
            refine lv_if_ne (tgt := 62) hx hb dX3_give_56 (by decide) (fun c11 => ?_) (fun c11 => ?_)
            · rw [if_neg c11] at hf
              refine lv_aload_n hx hb dX3_give_62 rfl (lv_at hl 0 rfl) ?_
              refine g_get (v := .ref (ad 0)) hx hb hts hown hK hW mO in_X3 rfl 0 (by decide) q1212 rfl rfl dX3_give_63 ?_
              refine lv_bipush (v := 7) hx hb dX3_give_66 (by decide) ?_
              obtain ⟨v12, hv12, hf⟩ := ob1_e hf
              refine g_iald hx hb hK hW mA0 hv12 dX3_give_68 ?_
              refine lv_istore (lv' := [(6, .int v12), (0, .ref (ad 99)), (1, .int a0), (2, .int a1), (3, .int a2), (4, .int a3), (5, .int a4)]) hx hb dX3_give_69 hl (by decide) rfl (fun ls hl => ?_)
              refine lv_iload hx hb dX3_give_71 (lv_at hl 0 rfl) ?_
              refine lv_bipush (v := 8) hx hb dX3_give_73 (by decide) ?_
              refine lv_icmp_ne (tgt := 81) hx hb dX3_give_75 (by decide) (fun c13 => ?_) (fun c13 => ?_)
              · rw [if_neg c13] at hf
                refine lv_aload_n hx hb dX3_give_81 rfl (lv_at hl 1 rfl) ?_
                obtain ⟨I14, A15, h15, hf⟩ := ob2_e hf
                refine g_vW (ov := none) (D := D) (Sc := mS) (adc := ad) (Ic := I) (Ac := A) (Rc := nR) (Gc := nG) (As := []) (rest := []) (Ic1 := I14) (Ac1 := A15) (Rc1 := nR) (Gc1 := nG) (b := ad 99) (C := RX3) ⟨hx, hb, hml, hown, hts⟩ (m_minds_met l D ad hI I A  I14 A15 h15) (g_cwV 0 hts (lw_V q1420 q1422 qs51 q82 q1423) rfl rfl m_minds_ds ⟨Nat.le_trans (Nat.le_of_ble_eq_true rfl) hRf, Nat.le_trans (Nat.le_of_ble_eq_true rfl) hRl⟩) (g_recv hK hW mO rfl) hK hW hS hA hcs rfl hl.1 rfl (Nat.le_of_ble_eq_true rfl) dX3_give_82 (fun H locs hW _ hS => ?_)
                refine lv_aload_n hx hb dX3_give_85 rfl (lv_at hl 1 rfl) ?_
                refine g_get (v := .ref (ad 0)) hx hb hts hown hK hW mO in_X3 rfl 0 (by decide) q1212 rfl rfl dX3_give_86 ?_
                refine lv_bipush (v := 25) hx hb dX3_give_89 (by decide) ?_
                refine lv_iload hx hb dX3_give_91 (lv_at hl 0 rfl) ?_
                refine lv_iadd hx hb dX3_give_93 ?_
                refine lv_iload_n hx hb dX3_give_94 rfl (lv_at hl 2 rfl) ?_
                obtain ⟨f16, hf16, hf⟩ := ob1_e hf
                refine g_iast hx hb hK mwf hI hA hW hS mA0 hf16 dX3_give_95 (fun H locs hW hS => ?_)
                refine lv_aload_n hx hb dX3_give_96 rfl (lv_at hl 1 rfl) ?_
                refine g_get (v := .ref (ad 0)) hx hb hts hown hK hW mO in_X3 rfl 0 (by decide) q1212 rfl rfl dX3_give_97 ?_
                refine lv_bipush (v := 33) hx hb dX3_give_100 (by decide) ?_
                refine lv_iload hx hb dX3_give_102 (lv_at hl 0 rfl) ?_
                refine lv_iadd hx hb dX3_give_104 ?_
                refine lv_iload_n hx hb dX3_give_105 rfl (lv_at hl 3 rfl) ?_
                obtain ⟨f17, hf17, hf⟩ := ob1_e hf
                refine g_iast hx hb hK mwf hI hA hW hS mA0 hf17 dX3_give_106 (fun H locs hW hS => ?_)
                refine lv_aload_n hx hb dX3_give_107 rfl (lv_at hl 1 rfl) ?_
                refine g_get (v := .ref (ad 0)) hx hb hts hown hK hW mO in_X3 rfl 0 (by decide) q1212 rfl rfl dX3_give_108 ?_
                refine lv_bipush (v := 41) hx hb dX3_give_111 (by decide) ?_
                refine lv_iload hx hb dX3_give_113 (lv_at hl 0 rfl) ?_
                refine lv_iadd hx hb dX3_give_115 ?_
                refine lv_iload_n hx hb dX3_give_116 rfl (lv_at hl 4 rfl) ?_
                obtain ⟨f18, hf18, hf⟩ := ob1_e hf
                refine g_iast hx hb hK mwf hI hA hW hS mA0 hf18 dX3_give_117 (fun H locs hW hS => ?_)
                refine lv_aload_n hx hb dX3_give_118 rfl (lv_at hl 1 rfl) ?_
                refine g_get (v := .ref (ad 0)) hx hb hts hown hK hW mO in_X3 rfl 0 (by decide) q1212 rfl rfl dX3_give_119 ?_
                refine lv_bipush (v := 49) hx hb dX3_give_122 (by decide) ?_
                refine lv_iload hx hb dX3_give_124 (lv_at hl 0 rfl) ?_
                refine lv_iadd hx hb dX3_give_126 ?_
                refine lv_iload hx hb dX3_give_127 (lv_at hl 5 rfl) ?_
                obtain ⟨f19, hf19, hf⟩ := ob1_e hf
                refine g_iast hx hb hK mwf hI hA hW hS mA0 hf19 dX3_give_129 (fun H locs hW hS => ?_)
                refine lv_aload_n hx hb dX3_give_130 rfl (lv_at hl 1 rfl) ?_
                refine g_get (v := .ref (ad 0)) hx hb hts hown hK hW mO in_X3 rfl 0 (by decide) q1212 rfl rfl dX3_give_131 ?_
                refine lv_bipush (v := 57) hx hb dX3_give_134 (by decide) ?_
                refine lv_iload hx hb dX3_give_136 (lv_at hl 0 rfl) ?_
                refine lv_iadd hx hb dX3_give_138 ?_
                refine lv_iload hx hb dX3_give_139 (lv_at hl 6 rfl) ?_
                obtain ⟨f20, hf20, hf⟩ := ob1_e hf
                refine g_iast hx hb hK mwf hI hA hW hS mA0 hf20 dX3_give_141 (fun H locs hW hS => ?_)
                refine lv_aload_n hx hb dX3_give_142 rfl (lv_at hl 1 rfl) ?_
                refine g_get (v := .ref (ad 0)) hx hb hts hown hK hW mO in_X3 rfl 0 (by decide) q1212 rfl rfl dX3_give_143 ?_
                refine lv_bipush (v := 65) hx hb dX3_give_146 (by decide) ?_
                refine lv_iload hx hb dX3_give_148 (lv_at hl 0 rfl) ?_
                refine lv_iadd hx hb dX3_give_150 ?_
                refine lv_iconst (v := 0) hx hb dX3_give_151 (by decide) ?_
                obtain ⟨f21, hf21, hf⟩ := ob1_e hf
                refine g_iast hx hb hK mwf hI hA hW hS mA0 hf21 dX3_give_152 (fun H locs hW hS => ?_)
                refine lv_aload_n hx hb dX3_give_153 rfl (lv_at hl 1 rfl) ?_
                refine g_get (v := .ref (ad 0)) hx hb hts hown hK hW mO in_X3 rfl 0 (by decide) q1212 rfl rfl dX3_give_154 ?_
                refine lv_bipush (v := 7) hx hb dX3_give_157 (by decide) ?_
                refine lv_dup2_11 hx hb dX3_give_159 rfl rfl ?_
                obtain ⟨v22, hv22, hf⟩ := ob1_e hf
                refine g_iald hx hb hK hW mA0 hv22 dX3_give_160 ?_
                refine lv_iconst (v := 1) hx hb dX3_give_161 (by decide) ?_
                refine lv_iadd hx hb dX3_give_162 ?_
                obtain ⟨f23, hf23, hf⟩ := ob1_e hf
                refine g_iast hx hb hK mwf hI hA hW hS mA0 hf23 dX3_give_163 (fun H locs hW hS => ?_)
                refine lv_iload hx hb dX3_give_164 (lv_at hl 0 rfl) ?_
                obtain ⟨rfl, rfl, rfl⟩ := so3 hf
                exact W.iret hx hb hr (fun t ht _ => ⟨rfl, by rw [ht]; exact hW, hS.F ht⟩) hS.2.2 dX3_give_166
              · rw [if_pos c13] at hf
                refine lv_ldc (v := (-1000003)) hx hb hown (hts _ q1332) dX3_give_78 ?_
                obtain ⟨rfl, rfl, rfl⟩ := so3 hf
                exact W.iret hx hb hr (fun t ht _ => ⟨rfl, by rw [ht]; exact hW, hS.F ht⟩) hS.2.2 dX3_give_80
            · rw [if_pos c11] at hf
              refine lv_ldc (v := (-1000001)) hx hb hown (hts _ q1298) dX3_give_59 ?_
              obtain ⟨rfl, rfl, rfl⟩ := so3 hf
              exact W.iret hx hb hr (fun t ht _ => ⟨rfl, by rw [ht]; exact hW, hS.F ht⟩) hS.2.2 dX3_give_61
theorem m_give_ds : yX3_give.cls = RX3 ∧ yX3_give.cls ≠ "java/lang/invoke/MethodHandle" ∧ yX3_give.cls ≠ "java/lang/invoke/VarHandle" ∧ (parseMethodDescriptor yX3_give.desc).map (fun d => d.parameters.length) = some 5 := by decide +kernel
/-! isPromise -/
def m_isPromise (I : Nat → Int32) (A : Nat → Nat → Int32) (a0 : Int32) : Option (Int32) :=
  ob1 (ldO (A 0) 2044 7) fun (v1 : Int32) =>
  ob1 (m_in a0.toInt64 0 ((v1 - 1).toInt64)) fun (v2 : Int32) =>
  zO v2
set_option maxRecDepth 100000 in
set_option maxHeartbeats 4000000 in
theorem m_isPromise_met (l : Launch) (D : dd_) (ad : Nat → Nat) (I : Nat → Int32) (A : Nat → Nat → Int32) (a0 : Int32) (r : Int32) (hf : m_isPromise I A a0 = some r) : Met l yX3_isPromise (ws_ yX3_isPromise cX3_isPromise 2 (some .boolean)) ({ frames := 2, cells := 0, slots := 0, locals := 41 }) (PcW D mS ad I A nR nG [.ref (ad 99), .int a0]) (QcR (some (.int r))) 0 0 (fun _ => False) := by
  refine Met.ofW (cc := cX3_isPromise) (maxL := 2) (ret := (some .boolean)) (by decide) rfl ?_
  intro p e s m args below meth c s₁ B hml hv
  obtain ⟨rfl, hK, hW⟩ := hv
  have hx := B.exec
  have hb := B.bytes
  have hr := B.returns
  have hts := atoms_spec (ws := (ws_ yX3_isPromise cX3_isPromise 2 (some .boolean))) B.pre
  have hts : ∀ w ∈ lw_all, w.before _ s = true := fun w h => hts w (List.mem_cons_of_mem _ h)
  have hown : s.vm.findClass RX3 = some m.cls := findClass_of_methodNamed B.named
  have hlocks := B.notSynchronized
  have hRf : 2 ≤ (headSpec (ws_ yX3_isPromise cX3_isPromise 2 (some .boolean)) ({ frames := 2, cells := 0, slots := 0, locals := 41 })).room.frames := Nat.le_refl _
  have hRl : 41 ≤ (headSpec (ws_ yX3_isPromise cX3_isPromise 2 (some .boolean)) ({ frames := 2, cells := 0, slots := 0, locals := 41 })).room.locals := Nat.le_refl _
  have hcs : 0 ≤ (headSpec (ws_ yX3_isPromise cX3_isPromise 2 (some .boolean)) ({ frames := 2, cells := 0, slots := 0, locals := 41 })).room.cells ∧ 0 ≤ (headSpec (ws_ yX3_isPromise cX3_isPromise 2 (some .boolean)) ({ frames := 2, cells := 0, slots := 0, locals := 41 })).room.slots := ⟨Nat.zero_le _, Nat.zero_le _⟩
  have hl := lv_entry ([.ref (ad 99), .int a0]) (n := 2) (Nat.le_of_ble_eq_true rfl)
  rw [lg_entry_eq]
  generalize (lg_sl ([.ref (ad 99), .int a0]) ++ List.replicate (2 - (lg_sl ([.ref (ad 99), .int a0])).length) Slot.unset).toArray = ls at hl ⊢
  have hl : lv_has ls 2 [(0, .ref (ad 99)), (1, .int a0)] := hl
  have hf : (ob1 (ldO (A 0) 2044 7) fun (v1 : Int32) =>
    ob1 (m_in a0.toInt64 0 ((v1 - 1).toInt64)) fun (v2 : Int32) =>
    zO v2) = some r := hf
  refine lv_iload_n hx hb dX3_isPromise_0 rfl (lv_at hl 1 rfl) ?_
  refine lv_i2l (v := a0.toInt64) hx hb dX3_isPromise_1 rfl ?_
  refine lv_lconst (v := 0) hx hb dX3_isPromise_2 (by decide) ?_
  refine lv_aload_n hx hb dX3_isPromise_3 rfl (lv_at hl 0 rfl) ?_
  refine g_get (v := .ref (ad 0)) hx hb hts hown hK hW mO in_X3 rfl 0 (by decide) q1212 rfl rfl dX3_isPromise_4 ?_
  refine lv_bipush (v := 7) hx hb dX3_isPromise_7 (by decide) ?_
  obtain ⟨v1, hv1, hf⟩ := ob1_e hf
  refine g_iald hx hb hK hW mA0 hv1 dX3_isPromise_9 ?_
  refine lv_iconst (v := 1) hx hb dX3_isPromise_10 (by decide) ?_
  refine lv_isub hx hb dX3_isPromise_11 ?_
  refine lv_i2l (v := (v1 - 1).toInt64) hx hb dX3_isPromise_12 rfl ?_
  obtain ⟨v2, h2, hf⟩ := ob1_e hf
  refine g_sR (ov := some (.int v2)) (D := D) (Sc := nS) (adc := ad) (Ic := (fun _ => 0)) (Ac := (fun _ _ => 0)) (Rc := nR) (Gc := nG) (As := [.long a0.toInt64, .long 0, .long ((v1 - 1).toInt64)]) (rest := []) ⟨hx, hb, hml, hown, hts⟩ (m_in_met l D ad a0.toInt64 0 ((v1 - 1).toInt64) v2 h2) (va_cwS 3 hts (lw_S q1294 q1295 q82 q1296) rfl rfl rfl m_in_ds.2 ⟨Nat.le_trans (Nat.le_of_ble_eq_true rfl) hRf, Nat.le_trans (Nat.le_of_ble_eq_true rfl) hRl⟩) hK WH_nil hcs rfl hl.1 rfl (Nat.le_of_ble_eq_true rfl) dX3_isPromise_13 ?_
  obtain ⟨hz, rfl⟩ := zO_e hf
  exact W.zret hx hb hr (nar_z hz) (fun t ht _ => ⟨rfl, ht⟩) (fun q hq => by cases hq) dX3_isPromise_16
theorem m_isPromise_ds : yX3_isPromise.cls = RX3 ∧ yX3_isPromise.cls ≠ "java/lang/invoke/MethodHandle" ∧ yX3_isPromise.cls ≠ "java/lang/invoke/VarHandle" ∧ (parseMethodDescriptor yX3_isPromise.desc).map (fun d => d.parameters.length) = some 1 := by decide +kernel
/-! redeem -/
def m_redeem (I : Nat → Int32) (A : Nat → Nat → Int32) (a0 : Int32) : Option (Int32 × (Nat → Int32) × (Nat → Nat → Int32)) :=
  ob1 (m_isPromise I A a0) fun (v1 : Int32) =>
  if v1 = 0 then (some ((-1000001), I, A)) else (ob1 (ldO (A 0) 2044 (65 + a0)) fun (v3 : Int32) =>
    if v3 = 1 then (some ((-1000002), I, A)) else (ob1 (ldO (A 0) 2044 (25 + a0)) fun (v5 : Int32) =>
      ob1 (ldO (A 0) 2044 (20 + v5)) fun (v6 : Int32) =>
      ob1 (ldO (A 0) 2044 (57 + a0)) fun (v7 : Int32) =>
      if v6 = v7 then (ob2 (m_minds I A ) fun (I9 : Nat → Int32) (A10 : Nat → Nat → Int32) =>
        ob1 (stO (A10 0) 2044 (65 + a0) 1) fun (f11 : Nat → Int32) =>
        ob1 (ldO ((va_up A10 0 f11) 0) 2044 8) fun (v12 : Int32) =>
        ob1 (ldO ((va_up A10 0 f11) 0) 2044 (49 + a0)) fun (v13 : Int32) =>
        ob1 (if v13 < v12 then ((some 0 : Option (Int32))) else ((some 1 : Option (Int32)))) fun (v14 : Int32) =>
        some (v14, I9, va_up A10 0 f11)) else (some ((-1000002), I, A))))
set_option maxRecDepth 100000 in
set_option maxHeartbeats 4000000 in
theorem m_redeem_met (l : Launch) (D : dd_) (ad : Nat → Nat) (hI : Inj mS ad) (I : Nat → Int32) (A : Nat → Nat → Int32) (a0 : Int32) (r : Int32) (I1 : (Nat → Int32)) (A1 : (Nat → Nat → Int32)) (hf : m_redeem I A a0 = some (r, I1, A1)) : Met l yX3_redeem (ws_ yX3_redeem cX3_redeem 2 (some .int)) ({ frames := 3, cells := 0, slots := 0, locals := 62 }) (PcW D mS ad I A nR nG [.ref (ad 99), .int a0]) (QcW D mS ad I1 A1 nR nG (some (.int r))) 0 0 (frS mS ad) := by
  refine Met.ofW (cc := cX3_redeem) (maxL := 2) (ret := (some .int)) (by decide) rfl ?_
  intro p e s m args below meth c s₁ B hml hv
  obtain ⟨rfl, hK, hW⟩ := hv
  have hx := B.exec
  have hb := B.bytes
  have hr := B.returns
  have hts := atoms_spec (ws := (ws_ yX3_redeem cX3_redeem 2 (some .int))) B.pre
  have hts : ∀ w ∈ lw_all, w.before _ s = true := fun w h => hts w (List.mem_cons_of_mem _ h)
  have hown : s.vm.findClass RX3 = some m.cls := findClass_of_methodNamed B.named
  have hlocks := B.notSynchronized
  have hRf : 3 ≤ (headSpec (ws_ yX3_redeem cX3_redeem 2 (some .int)) ({ frames := 3, cells := 0, slots := 0, locals := 62 })).room.frames := Nat.le_refl _
  have hRl : 62 ≤ (headSpec (ws_ yX3_redeem cX3_redeem 2 (some .int)) ({ frames := 3, cells := 0, slots := 0, locals := 62 })).room.locals := Nat.le_refl _
  have hcs : 0 ≤ (headSpec (ws_ yX3_redeem cX3_redeem 2 (some .int)) ({ frames := 3, cells := 0, slots := 0, locals := 62 })).room.cells ∧ 0 ≤ (headSpec (ws_ yX3_redeem cX3_redeem 2 (some .int)) ({ frames := 3, cells := 0, slots := 0, locals := 62 })).room.slots := ⟨Nat.zero_le _, Nat.zero_le _⟩
  have hA : ∀ i ∈ idxS mS, frS mS ad (ad i) := fun i hi => ⟨i, hi, rfl⟩
  have hS : va_S (frS mS ad) s.heap s.heap [] := va_S.rf
  have hl := lv_entry ([.ref (ad 99), .int a0]) (n := 2) (Nat.le_of_ble_eq_true rfl)
  rw [lg_entry_eq]
  generalize (lg_sl ([.ref (ad 99), .int a0]) ++ List.replicate (2 - (lg_sl ([.ref (ad 99), .int a0])).length) Slot.unset).toArray = ls at hl ⊢
  have hl : lv_has ls 2 [(0, .ref (ad 99)), (1, .int a0)] := hl
  have hf : (ob1 (m_isPromise I A a0) fun (v1 : Int32) =>
    if v1 = 0 then (some ((-1000001), I, A)) else (ob1 (ldO (A 0) 2044 (65 + a0)) fun (v3 : Int32) =>
      if v3 = 1 then (some ((-1000002), I, A)) else (ob1 (ldO (A 0) 2044 (25 + a0)) fun (v5 : Int32) =>
        ob1 (ldO (A 0) 2044 (20 + v5)) fun (v6 : Int32) =>
        ob1 (ldO (A 0) 2044 (57 + a0)) fun (v7 : Int32) =>
        if v6 = v7 then (ob2 (m_minds I A ) fun (I9 : Nat → Int32) (A10 : Nat → Nat → Int32) =>
          ob1 (stO (A10 0) 2044 (65 + a0) 1) fun (f11 : Nat → Int32) =>
          ob1 (ldO ((va_up A10 0 f11) 0) 2044 8) fun (v12 : Int32) =>
          ob1 (ldO ((va_up A10 0 f11) 0) 2044 (49 + a0)) fun (v13 : Int32) =>
          ob1 (if v13 < v12 then ((some 0 : Option (Int32))) else ((some 1 : Option (Int32)))) fun (v14 : Int32) =>
          some (v14, I9, va_up A10 0 f11)) else (some ((-1000002), I, A))))) = some (r, I1, A1) := hf
  refine lv_aload_n hx hb dX3_redeem_0 rfl (lv_at hl 0 rfl) ?_
  refine lv_iload_n hx hb dX3_redeem_1 rfl (lv_at hl 1 rfl) ?_
  obtain ⟨v1, h1, hf⟩ := ob1_e hf
  refine g_vR (ov := some (.int v1)) (D := D) (Sc := mS) (adc := ad) (Ic := I) (Ac := A) (Rc := nR) (Gc := nG) (As := [.int a0]) (rest := []) (b := ad 99) (C := RX3) ⟨hx, hb, hml, hown, hts⟩ (m_isPromise_met l D ad I A a0 v1 h1) (g_cwV 1 hts (lw_V q1434 q1436 qs52 q82 q1437) rfl rfl m_isPromise_ds ⟨Nat.le_trans (Nat.le_of_ble_eq_true rfl) hRf, Nat.le_trans (Nat.le_of_ble_eq_true rfl) hRl⟩) (g_recv hK hW mO rfl) hK hW hcs rfl hl.1 rfl (Nat.le_of_ble_eq_true rfl) dX3_redeem_2 ?_
  refine lv_if_ne (tgt := 11) hx hb dX3_redeem_5 (by decide) (fun c2 => ?_) (fun c2 => ?_)
  · rw [if_neg c2] at hf
    refine lv_aload_n hx hb dX3_redeem_11 rfl (lv_at hl 0 rfl) ?_
    refine g_get (v := .ref (ad 0)) hx hb hts hown hK hW mO in_X3 rfl 0 (by decide) q1212 rfl rfl dX3_redeem_12 ?_
    refine lv_bipush (v := 65) hx hb dX3_redeem_15 (by decide) ?_
    refine lv_iload_n hx hb dX3_redeem_17 rfl (lv_at hl 1 rfl) ?_
    refine lv_iadd hx hb dX3_redeem_18 ?_
    obtain ⟨v3, hv3, hf⟩ := ob1_e hf
    refine g_iald hx hb hK hW mA0 hv3 dX3_redeem_19 ?_
    refine lv_iconst (v := 1) hx hb dX3_redeem_20 (by decide) ?_
    refine lv_icmp_eq (tgt := 53) hx hb dX3_redeem_21 (by decide) (fun c4 => ?_) (fun c4 => ?_)
    · rw [if_pos c4] at hf
      refine lv_ldc (v := (-1000002)) hx hb hown (hts _ q1391) dX3_redeem_53 ?_
      obtain ⟨rfl, rfl, rfl⟩ := so3 hf
      exact W.iret hx hb hr (fun t ht _ => ⟨rfl, by rw [ht]; exact hW, hS.F ht⟩) hS.2.2 dX3_redeem_55
    · rw [if_neg c4] at hf
      refine lv_aload_n hx hb dX3_redeem_24 rfl (lv_at hl 0 rfl) ?_
      refine g_get (v := .ref (ad 0)) hx hb hts hown hK hW mO in_X3 rfl 0 (by decide) q1212 rfl rfl dX3_redeem_25 ?_
      refine lv_bipush (v := 20) hx hb dX3_redeem_28 (by decide) ?_
      refine lv_aload_n hx hb dX3_redeem_30 rfl (lv_at hl 0 rfl) ?_
      refine g_get (v := .ref (ad 0)) hx hb hts hown hK hW mO in_X3 rfl 0 (by decide) q1212 rfl rfl dX3_redeem_31 ?_
      refine lv_bipush (v := 25) hx hb dX3_redeem_34 (by decide) ?_
      refine lv_iload_n hx hb dX3_redeem_36 rfl (lv_at hl 1 rfl) ?_
      refine lv_iadd hx hb dX3_redeem_37 ?_
      obtain ⟨v5, hv5, hf⟩ := ob1_e hf
      refine g_iald hx hb hK hW mA0 hv5 dX3_redeem_38 ?_
      refine lv_iadd hx hb dX3_redeem_39 ?_
      obtain ⟨v6, hv6, hf⟩ := ob1_e hf
      refine g_iald hx hb hK hW mA0 hv6 dX3_redeem_40 ?_
      refine lv_aload_n hx hb dX3_redeem_41 rfl (lv_at hl 0 rfl) ?_
      refine g_get (v := .ref (ad 0)) hx hb hts hown hK hW mO in_X3 rfl 0 (by decide) q1212 rfl rfl dX3_redeem_42 ?_
      refine lv_bipush (v := 57) hx hb dX3_redeem_45 (by decide) ?_
      refine lv_iload_n hx hb dX3_redeem_47 rfl (lv_at hl 1 rfl) ?_
      refine lv_iadd hx hb dX3_redeem_48 ?_
      obtain ⟨v7, hv7, hf⟩ := ob1_e hf
      refine g_iald hx hb hK hW mA0 hv7 dX3_redeem_49 ?_
      refine lv_icmp_eq (tgt := 56) hx hb dX3_redeem_50 (by decide) (fun c8 => ?_) (fun c8 => ?_)
      · rw [if_pos c8] at hf
        refine lv_aload_n hx hb dX3_redeem_56 rfl (lv_at hl 0 rfl) ?_
        obtain ⟨I9, A10, h10, hf⟩ := ob2_e hf
        refine g_vW (ov := none) (D := D) (Sc := mS) (adc := ad) (Ic := I) (Ac := A) (Rc := nR) (Gc := nG) (As := []) (rest := []) (Ic1 := I9) (Ac1 := A10) (Rc1 := nR) (Gc1 := nG) (b := ad 99) (C := RX3) ⟨hx, hb, hml, hown, hts⟩ (m_minds_met l D ad hI I A  I9 A10 h10) (g_cwV 0 hts (lw_V q1420 q1422 qs51 q82 q1423) rfl rfl m_minds_ds ⟨Nat.le_trans (Nat.le_of_ble_eq_true rfl) hRf, Nat.le_trans (Nat.le_of_ble_eq_true rfl) hRl⟩) (g_recv hK hW mO rfl) hK hW hS hA hcs rfl hl.1 rfl (Nat.le_of_ble_eq_true rfl) dX3_redeem_57 (fun H locs hW _ hS => ?_)
        refine lv_aload_n hx hb dX3_redeem_60 rfl (lv_at hl 0 rfl) ?_
        refine g_get (v := .ref (ad 0)) hx hb hts hown hK hW mO in_X3 rfl 0 (by decide) q1212 rfl rfl dX3_redeem_61 ?_
        refine lv_bipush (v := 65) hx hb dX3_redeem_64 (by decide) ?_
        refine lv_iload_n hx hb dX3_redeem_66 rfl (lv_at hl 1 rfl) ?_
        refine lv_iadd hx hb dX3_redeem_67 ?_
        refine lv_iconst (v := 1) hx hb dX3_redeem_68 (by decide) ?_
        obtain ⟨f11, hf11, hf⟩ := ob1_e hf
        refine g_iast hx hb hK mwf hI hA hW hS mA0 hf11 dX3_redeem_69 (fun H locs hW hS => ?_)
        refine lv_aload_n hx hb dX3_redeem_70 rfl (lv_at hl 0 rfl) ?_
        refine g_get (v := .ref (ad 0)) hx hb hts hown hK hW mO in_X3 rfl 0 (by decide) q1212 rfl rfl dX3_redeem_71 ?_
        refine lv_bipush (v := 8) hx hb dX3_redeem_74 (by decide) ?_
        obtain ⟨v12, hv12, hf⟩ := ob1_e hf
        refine g_iald hx hb hK hW mA0 hv12 dX3_redeem_76 ?_
        refine lv_aload_n hx hb dX3_redeem_77 rfl (lv_at hl 0 rfl) ?_
        refine g_get (v := .ref (ad 0)) hx hb hts hown hK hW mO in_X3 rfl 0 (by decide) q1212 rfl rfl dX3_redeem_78 ?_
        refine lv_bipush (v := 49) hx hb dX3_redeem_81 (by decide) ?_
        refine lv_iload_n hx hb dX3_redeem_83 rfl (lv_at hl 1 rfl) ?_
        refine lv_iadd hx hb dX3_redeem_84 ?_
        obtain ⟨v13, hv13, hf⟩ := ob1_e hf
        refine g_iald hx hb hK hW mA0 hv13 dX3_redeem_85 ?_
        obtain ⟨v14, hm14, hf⟩ := ob1_e hf
        refine w_cutL (nL := 2) (L := []) (pcj := 94) (st := [.int v14]) (fun ls hl => ?_) (fun K14 => ?_)
        · obtain ⟨rfl, rfl, rfl⟩ := so3 hf
          exact W.iret hx hb hr (fun t ht _ => ⟨rfl, by rw [ht]; exact hW, hS.F ht⟩) hS.2.2 dX3_redeem_94
        · refine lv_icmp_gt (tgt := 93) hx hb dX3_redeem_86 (by decide) (fun c15 => ?_) (fun c15 => ?_)
          · rw [if_pos c15] at hm14
            refine lv_iconst (v := 0) hx hb dX3_redeem_93 (by decide) ?_
            obtain rfl := so1 hm14
            exact K14 ls (lv_sub hl [] rfl)
          · rw [if_neg c15] at hm14
            refine lv_iconst (v := 1) hx hb dX3_redeem_89 (by decide) ?_
            refine lv_goto (tgt := 94) hx hb dX3_redeem_90 (by decide) ?_
            obtain rfl := so1 hm14
            exact K14 ls (lv_sub hl [] rfl)
      · rw [if_neg c8] at hf
        refine lv_ldc (v := (-1000002)) hx hb hown (hts _ q1391) dX3_redeem_53 ?_
        obtain ⟨rfl, rfl, rfl⟩ := so3 hf
        exact W.iret hx hb hr (fun t ht _ => ⟨rfl, by rw [ht]; exact hW, hS.F ht⟩) hS.2.2 dX3_redeem_55
  · rw [if_pos c2] at hf
    refine lv_ldc (v := (-1000001)) hx hb hown (hts _ q1298) dX3_redeem_8 ?_
    obtain ⟨rfl, rfl, rfl⟩ := so3 hf
    exact W.iret hx hb hr (fun t ht _ => ⟨rfl, by rw [ht]; exact hW, hS.F ht⟩) hS.2.2 dX3_redeem_10
theorem m_redeem_ds : yX3_redeem.cls = RX3 ∧ yX3_redeem.cls ≠ "java/lang/invoke/MethodHandle" ∧ yX3_redeem.cls ≠ "java/lang/invoke/VarHandle" ∧ (parseMethodDescriptor yX3_redeem.desc).map (fun d => d.parameters.length) = some 1 := by decide +kernel
/-! pass -/
def m_pass (I : Nat → Int32) (A : Nat → Nat → Int32) (a0 : Int32) (a1 : Int32) : Option (Int32 × (Nat → Int32) × (Nat → Nat → Int32)) :=
  ob1 (m_isPromise I A a0) fun (v1 : Int32) =>
  if v1 = 0 then (some ((-1000001), I, A)) else (ob1 (m_isPerson I A a1) fun (v3 : Int32) =>
    if v3 = 0 then (some ((-1000001), I, A)) else (ob1 (ldO (A 0) 2044 (65 + a0)) fun (v5 : Int32) =>
      if v5 = 1 then (some ((-1000002), I, A)) else (ob1 (ldO (A 0) 2044 (33 + a0)) fun (v7 : Int32) =>
        if a1 = v7 then (some ((-1000002), I, A)) else (ob1 (ldO (A 0) 2044 (25 + a0)) fun (v9 : Int32) =>
          if a1 = v9 then (some ((-1000002), I, A)) else (ob2 (m_minds I A ) fun (I11 : Nat → Int32) (A12 : Nat → Nat → Int32) =>
            ob1 (stO (A12 0) 2044 (25 + a0) a1) fun (f13 : Nat → Int32) =>
            ob1 (m_loadOf I11 (va_up A12 0 f13) a1) fun (v14 : Int32) =>
            some (v14, I11, va_up A12 0 f13))))))
set_option maxRecDepth 100000 in
set_option maxHeartbeats 4000000 in
theorem m_pass_met (l : Launch) (D : dd_) (ad : Nat → Nat) (hI : Inj mS ad) (I : Nat → Int32) (A : Nat → Nat → Int32) (a0 : Int32) (a1 : Int32) (r : Int32) (I1 : (Nat → Int32)) (A1 : (Nat → Nat → Int32)) (hf : m_pass I A a0 a1 = some (r, I1, A1)) : Met l yX3_pass (ws_ yX3_pass cX3_pass 3 (some .int)) ({ frames := 4, cells := 0, slots := 0, locals := 82 }) (PcW D mS ad I A nR nG [.ref (ad 99), .int a0, .int a1]) (QcW D mS ad I1 A1 nR nG (some (.int r))) 0 0 (frS mS ad) := by
  refine Met.ofW (cc := cX3_pass) (maxL := 3) (ret := (some .int)) (by decide) rfl ?_
  intro p e s m args below meth c s₁ B hml hv
  obtain ⟨rfl, hK, hW⟩ := hv
  have hx := B.exec
  have hb := B.bytes
  have hr := B.returns
  have hts := atoms_spec (ws := (ws_ yX3_pass cX3_pass 3 (some .int))) B.pre
  have hts : ∀ w ∈ lw_all, w.before _ s = true := fun w h => hts w (List.mem_cons_of_mem _ h)
  have hown : s.vm.findClass RX3 = some m.cls := findClass_of_methodNamed B.named
  have hlocks := B.notSynchronized
  have hRf : 4 ≤ (headSpec (ws_ yX3_pass cX3_pass 3 (some .int)) ({ frames := 4, cells := 0, slots := 0, locals := 82 })).room.frames := Nat.le_refl _
  have hRl : 82 ≤ (headSpec (ws_ yX3_pass cX3_pass 3 (some .int)) ({ frames := 4, cells := 0, slots := 0, locals := 82 })).room.locals := Nat.le_refl _
  have hcs : 0 ≤ (headSpec (ws_ yX3_pass cX3_pass 3 (some .int)) ({ frames := 4, cells := 0, slots := 0, locals := 82 })).room.cells ∧ 0 ≤ (headSpec (ws_ yX3_pass cX3_pass 3 (some .int)) ({ frames := 4, cells := 0, slots := 0, locals := 82 })).room.slots := ⟨Nat.zero_le _, Nat.zero_le _⟩
  have hA : ∀ i ∈ idxS mS, frS mS ad (ad i) := fun i hi => ⟨i, hi, rfl⟩
  have hS : va_S (frS mS ad) s.heap s.heap [] := va_S.rf
  have hl := lv_entry ([.ref (ad 99), .int a0, .int a1]) (n := 3) (Nat.le_of_ble_eq_true rfl)
  rw [lg_entry_eq]
  generalize (lg_sl ([.ref (ad 99), .int a0, .int a1]) ++ List.replicate (3 - (lg_sl ([.ref (ad 99), .int a0, .int a1])).length) Slot.unset).toArray = ls at hl ⊢
  have hl : lv_has ls 3 [(0, .ref (ad 99)), (1, .int a0), (2, .int a1)] := hl
  have hf : (ob1 (m_isPromise I A a0) fun (v1 : Int32) =>
    if v1 = 0 then (some ((-1000001), I, A)) else (ob1 (m_isPerson I A a1) fun (v3 : Int32) =>
      if v3 = 0 then (some ((-1000001), I, A)) else (ob1 (ldO (A 0) 2044 (65 + a0)) fun (v5 : Int32) =>
        if v5 = 1 then (some ((-1000002), I, A)) else (ob1 (ldO (A 0) 2044 (33 + a0)) fun (v7 : Int32) =>
          if a1 = v7 then (some ((-1000002), I, A)) else (ob1 (ldO (A 0) 2044 (25 + a0)) fun (v9 : Int32) =>
            if a1 = v9 then (some ((-1000002), I, A)) else (ob2 (m_minds I A ) fun (I11 : Nat → Int32) (A12 : Nat → Nat → Int32) =>
              ob1 (stO (A12 0) 2044 (25 + a0) a1) fun (f13 : Nat → Int32) =>
              ob1 (m_loadOf I11 (va_up A12 0 f13) a1) fun (v14 : Int32) =>
              some (v14, I11, va_up A12 0 f13))))))) = some (r, I1, A1) := hf
  refine lv_aload_n hx hb dX3_pass_0 rfl (lv_at hl 0 rfl) ?_
  refine lv_iload_n hx hb dX3_pass_1 rfl (lv_at hl 1 rfl) ?_
  obtain ⟨v1, h1, hf⟩ := ob1_e hf
  refine g_vR (ov := some (.int v1)) (D := D) (Sc := mS) (adc := ad) (Ic := I) (Ac := A) (Rc := nR) (Gc := nG) (As := [.int a0]) (rest := []) (b := ad 99) (C := RX3) ⟨hx, hb, hml, hown, hts⟩ (m_isPromise_met l D ad I A a0 v1 h1) (g_cwV 1 hts (lw_V q1434 q1436 qs52 q82 q1437) rfl rfl m_isPromise_ds ⟨Nat.le_trans (Nat.le_of_ble_eq_true rfl) hRf, Nat.le_trans (Nat.le_of_ble_eq_true rfl) hRl⟩) (g_recv hK hW mO rfl) hK hW hcs rfl hl.1 rfl (Nat.le_of_ble_eq_true rfl) dX3_pass_2 ?_
  refine lv_if_eq (tgt := 16) hx hb dX3_pass_5 (by decide) (fun c2 => ?_) (fun c2 => ?_)
  · rw [if_pos c2] at hf
    refine lv_ldc (v := (-1000001)) hx hb hown (hts _ q1298) dX3_pass_16 ?_
    obtain ⟨rfl, rfl, rfl⟩ := so3 hf
    exact W.iret hx hb hr (fun t ht _ => ⟨rfl, by rw [ht]; exact hW, hS.F ht⟩) hS.2.2 dX3_pass_18
  · rw [if_neg c2] at hf
    refine lv_aload_n hx hb dX3_pass_8 rfl (lv_at hl 0 rfl) ?_
    refine lv_iload_n hx hb dX3_pass_9 rfl (lv_at hl 2 rfl) ?_
    obtain ⟨v3, h3, hf⟩ := ob1_e hf
    refine g_vR (ov := some (.int v3)) (D := D) (Sc := mS) (adc := ad) (Ic := I) (Ac := A) (Rc := nR) (Gc := nG) (As := [.int a1]) (rest := []) (b := ad 99) (C := RX3) ⟨hx, hb, hml, hown, hts⟩ (m_isPerson_met l D ad I A a1 v3 h3) (g_cwV 1 hts (lw_V q1396 q1398 qs46 q82 q1399) rfl rfl m_isPerson_ds ⟨Nat.le_trans (Nat.le_of_ble_eq_true rfl) hRf, Nat.le_trans (Nat.le_of_ble_eq_true rfl) hRl⟩) (g_recv hK hW mO rfl) hK hW hcs rfl hl.1 rfl (Nat.le_of_ble_eq_true rfl) dX3_pass_10 ?_
    refine lv_if_ne (tgt := 19) hx hb dX3_pass_13 (by decide) (fun c4 => ?_) (fun c4 => ?_)
    · rw [if_neg c4] at hf
      refine lv_aload_n hx hb dX3_pass_19 rfl (lv_at hl 0 rfl) ?_
      refine g_get (v := .ref (ad 0)) hx hb hts hown hK hW mO in_X3 rfl 0 (by decide) q1212 rfl rfl dX3_pass_20 ?_
      refine lv_bipush (v := 65) hx hb dX3_pass_23 (by decide) ?_
      refine lv_iload_n hx hb dX3_pass_25 rfl (lv_at hl 1 rfl) ?_
      refine lv_iadd hx hb dX3_pass_26 ?_
      obtain ⟨v5, hv5, hf⟩ := ob1_e hf
      refine g_iald hx hb hK hW mA0 hv5 dX3_pass_27 ?_
      refine lv_iconst (v := 1) hx hb dX3_pass_28 (by decide) ?_
      refine lv_icmp_eq (tgt := 58) hx hb dX3_pass_29 (by decide) (fun c6 => ?_) (fun c6 => ?_)
      · rw [if_pos c6] at hf
        refine lv_ldc (v := (-1000002)) hx hb hown (hts _ q1391) dX3_pass_58 ?_
        obtain ⟨rfl, rfl, rfl⟩ := so3 hf
        exact W.iret hx hb hr (fun t ht _ => ⟨rfl, by rw [ht]; exact hW, hS.F ht⟩) hS.2.2 dX3_pass_60
      · rw [if_neg c6] at hf
        refine lv_iload_n hx hb dX3_pass_32 rfl (lv_at hl 2 rfl) ?_
        refine lv_aload_n hx hb dX3_pass_33 rfl (lv_at hl 0 rfl) ?_
        refine g_get (v := .ref (ad 0)) hx hb hts hown hK hW mO in_X3 rfl 0 (by decide) q1212 rfl rfl dX3_pass_34 ?_
        refine lv_bipush (v := 33) hx hb dX3_pass_37 (by decide) ?_
        refine lv_iload_n hx hb dX3_pass_39 rfl (lv_at hl 1 rfl) ?_
        refine lv_iadd hx hb dX3_pass_40 ?_
        obtain ⟨v7, hv7, hf⟩ := ob1_e hf
        refine g_iald hx hb hK hW mA0 hv7 dX3_pass_41 ?_
        refine lv_icmp_eq (tgt := 58) hx hb dX3_pass_42 (by decide) (fun c8 => ?_) (fun c8 => ?_)
        · rw [if_pos c8] at hf
          refine lv_ldc (v := (-1000002)) hx hb hown (hts _ q1391) dX3_pass_58 ?_
          obtain ⟨rfl, rfl, rfl⟩ := so3 hf
          exact W.iret hx hb hr (fun t ht _ => ⟨rfl, by rw [ht]; exact hW, hS.F ht⟩) hS.2.2 dX3_pass_60
        · rw [if_neg c8] at hf
          refine lv_iload_n hx hb dX3_pass_45 rfl (lv_at hl 2 rfl) ?_
          refine lv_aload_n hx hb dX3_pass_46 rfl (lv_at hl 0 rfl) ?_
          refine g_get (v := .ref (ad 0)) hx hb hts hown hK hW mO in_X3 rfl 0 (by decide) q1212 rfl rfl dX3_pass_47 ?_
          refine lv_bipush (v := 25) hx hb dX3_pass_50 (by decide) ?_
          refine lv_iload_n hx hb dX3_pass_52 rfl (lv_at hl 1 rfl) ?_
          refine lv_iadd hx hb dX3_pass_53 ?_
          obtain ⟨v9, hv9, hf⟩ := ob1_e hf
          refine g_iald hx hb hK hW mA0 hv9 dX3_pass_54 ?_
          refine lv_icmp_ne (tgt := 61) hx hb dX3_pass_55 (by decide) (fun c10 => ?_) (fun c10 => ?_)
          · rw [if_neg c10] at hf
            refine lv_aload_n hx hb dX3_pass_61 rfl (lv_at hl 0 rfl) ?_
            obtain ⟨I11, A12, h12, hf⟩ := ob2_e hf
            refine g_vW (ov := none) (D := D) (Sc := mS) (adc := ad) (Ic := I) (Ac := A) (Rc := nR) (Gc := nG) (As := []) (rest := []) (Ic1 := I11) (Ac1 := A12) (Rc1 := nR) (Gc1 := nG) (b := ad 99) (C := RX3) ⟨hx, hb, hml, hown, hts⟩ (m_minds_met l D ad hI I A  I11 A12 h12) (g_cwV 0 hts (lw_V q1420 q1422 qs51 q82 q1423) rfl rfl m_minds_ds ⟨Nat.le_trans (Nat.le_of_ble_eq_true rfl) hRf, Nat.le_trans (Nat.le_of_ble_eq_true rfl) hRl⟩) (g_recv hK hW mO rfl) hK hW hS hA hcs rfl hl.1 rfl (Nat.le_of_ble_eq_true rfl) dX3_pass_62 (fun H locs hW _ hS => ?_)
            refine lv_aload_n hx hb dX3_pass_65 rfl (lv_at hl 0 rfl) ?_
            refine g_get (v := .ref (ad 0)) hx hb hts hown hK hW mO in_X3 rfl 0 (by decide) q1212 rfl rfl dX3_pass_66 ?_
            refine lv_bipush (v := 25) hx hb dX3_pass_69 (by decide) ?_
            refine lv_iload_n hx hb dX3_pass_71 rfl (lv_at hl 1 rfl) ?_
            refine lv_iadd hx hb dX3_pass_72 ?_
            refine lv_iload_n hx hb dX3_pass_73 rfl (lv_at hl 2 rfl) ?_
            obtain ⟨f13, hf13, hf⟩ := ob1_e hf
            refine g_iast hx hb hK mwf hI hA hW hS mA0 hf13 dX3_pass_74 (fun H locs hW hS => ?_)
            refine lv_aload_n hx hb dX3_pass_75 rfl (lv_at hl 0 rfl) ?_
            refine lv_iload_n hx hb dX3_pass_76 rfl (lv_at hl 2 rfl) ?_
            obtain ⟨v14, h14, hf⟩ := ob1_e hf
            refine g_vR (ov := some (.int v14)) (D := D) (Sc := mS) (adc := ad) (Ic := I11) (Ac := (va_up A12 0 f13)) (Rc := nR) (Gc := nG) (As := [.int a1]) (rest := []) (b := ad 99) (C := RX3) ⟨hx, hb, hml, hown, hts⟩ (m_loadOf_met l D ad I11 (va_up A12 0 f13) a1 v14 h14) (g_cwV 1 hts (lw_V q1409 q1411 qs49 q82 q1412) rfl rfl m_loadOf_ds ⟨Nat.le_trans (Nat.le_of_ble_eq_true rfl) hRf, Nat.le_trans (Nat.le_of_ble_eq_true rfl) hRl⟩) (g_recv hK hW mO rfl) hK hW hcs rfl hl.1 rfl (Nat.le_of_ble_eq_true rfl) dX3_pass_77 ?_
            obtain ⟨rfl, rfl, rfl⟩ := so3 hf
            exact W.iret hx hb hr (fun t ht _ => ⟨rfl, by rw [ht]; exact hW, hS.F ht⟩) hS.2.2 dX3_pass_80
          · rw [if_pos c10] at hf
            refine lv_ldc (v := (-1000002)) hx hb hown (hts _ q1391) dX3_pass_58 ?_
            obtain ⟨rfl, rfl, rfl⟩ := so3 hf
            exact W.iret hx hb hr (fun t ht _ => ⟨rfl, by rw [ht]; exact hW, hS.F ht⟩) hS.2.2 dX3_pass_60
    · rw [if_pos c4] at hf
      refine lv_ldc (v := (-1000001)) hx hb hown (hts _ q1298) dX3_pass_16 ?_
      obtain ⟨rfl, rfl, rfl⟩ := so3 hf
      exact W.iret hx hb hr (fun t ht _ => ⟨rfl, by rw [ht]; exact hW, hS.F ht⟩) hS.2.2 dX3_pass_18
theorem m_pass_ds : yX3_pass.cls = RX3 ∧ yX3_pass.cls ≠ "java/lang/invoke/MethodHandle" ∧ yX3_pass.cls ≠ "java/lang/invoke/VarHandle" ∧ (parseMethodDescriptor yX3_pass.desc).map (fun d => d.parameters.length) = some 2 := by decide +kernel
/-! isNone -/
def m_isNone (I : Nat → Int32) (A : Nat → Nat → Int32) : Option (Int32) :=
  ob1 (ldO (A 0) 2044 9) fun (v1 : Int32) =>
  ob1 (if v1 = 0 then ((some 1 : Option (Int32))) else ((some 0 : Option (Int32)))) fun (v2 : Int32) =>
  zO v2
set_option maxRecDepth 100000 in
set_option maxHeartbeats 4000000 in
theorem m_isNone_met (l : Launch) (D : dd_) (ad : Nat → Nat) (I : Nat → Int32) (A : Nat → Nat → Int32) (r : Int32) (hf : m_isNone I A  = some r) : Met l yX3_isNone (ws_ yX3_isNone cX3_isNone 1 (some .boolean)) ({ frames := 1, cells := 0, slots := 0, locals := 16 }) (PcW D mS ad I A nR nG [.ref (ad 99)]) (QcR (some (.int r))) 0 0 (fun _ => False) := by
  refine Met.ofW (cc := cX3_isNone) (maxL := 1) (ret := (some .boolean)) (by decide) rfl ?_
  intro p e s m args below meth c s₁ B hml hv
  obtain ⟨rfl, hK, hW⟩ := hv
  have hx := B.exec
  have hb := B.bytes
  have hr := B.returns
  have hts := atoms_spec (ws := (ws_ yX3_isNone cX3_isNone 1 (some .boolean))) B.pre
  have hts : ∀ w ∈ lw_all, w.before _ s = true := fun w h => hts w (List.mem_cons_of_mem _ h)
  have hown : s.vm.findClass RX3 = some m.cls := findClass_of_methodNamed B.named
  have hlocks := B.notSynchronized
  have hRf : 1 ≤ (headSpec (ws_ yX3_isNone cX3_isNone 1 (some .boolean)) ({ frames := 1, cells := 0, slots := 0, locals := 16 })).room.frames := Nat.le_refl _
  have hRl : 16 ≤ (headSpec (ws_ yX3_isNone cX3_isNone 1 (some .boolean)) ({ frames := 1, cells := 0, slots := 0, locals := 16 })).room.locals := Nat.le_refl _
  have hcs : 0 ≤ (headSpec (ws_ yX3_isNone cX3_isNone 1 (some .boolean)) ({ frames := 1, cells := 0, slots := 0, locals := 16 })).room.cells ∧ 0 ≤ (headSpec (ws_ yX3_isNone cX3_isNone 1 (some .boolean)) ({ frames := 1, cells := 0, slots := 0, locals := 16 })).room.slots := ⟨Nat.zero_le _, Nat.zero_le _⟩
  have hl := lv_entry ([.ref (ad 99)]) (n := 1) (Nat.le_of_ble_eq_true rfl)
  rw [lg_entry_eq]
  generalize (lg_sl ([.ref (ad 99)]) ++ List.replicate (1 - (lg_sl ([.ref (ad 99)])).length) Slot.unset).toArray = ls at hl ⊢
  have hl : lv_has ls 1 [(0, .ref (ad 99))] := hl
  have hf : (ob1 (ldO (A 0) 2044 9) fun (v1 : Int32) =>
    ob1 (if v1 = 0 then ((some 1 : Option (Int32))) else ((some 0 : Option (Int32)))) fun (v2 : Int32) =>
    zO v2) = some r := hf
  refine lv_aload_n hx hb dX3_isNone_0 rfl (lv_at hl 0 rfl) ?_
  refine g_get (v := .ref (ad 0)) hx hb hts hown hK hW mO in_X3 rfl 0 (by decide) q1212 rfl rfl dX3_isNone_1 ?_
  refine lv_bipush (v := 9) hx hb dX3_isNone_4 (by decide) ?_
  obtain ⟨v1, hv1, hf⟩ := ob1_e hf
  refine g_iald hx hb hK hW mA0 hv1 dX3_isNone_6 ?_
  obtain ⟨v2, hm2, hf⟩ := ob1_e hf
  refine w_cutL (nL := 1) (L := []) (pcj := 15) (st := [.int v2]) (fun ls hl => ?_) (fun K2 => ?_)
  · obtain ⟨hz, rfl⟩ := zO_e hf
    exact W.zret hx hb hr (nar_z hz) (fun t ht _ => ⟨rfl, ht⟩) (fun q hq => by cases hq) dX3_isNone_15
  · refine lv_if_ne (tgt := 14) hx hb dX3_isNone_7 (by decide) (fun c3 => ?_) (fun c3 => ?_)
    · rw [if_neg c3] at hm2
      refine lv_iconst (v := 0) hx hb dX3_isNone_14 (by decide) ?_
      obtain rfl := so1 hm2
      exact K2 ls (lv_sub hl [] rfl)
    · rw [if_pos c3] at hm2
      refine lv_iconst (v := 1) hx hb dX3_isNone_10 (by decide) ?_
      refine lv_goto (tgt := 15) hx hb dX3_isNone_11 (by decide) ?_
      obtain rfl := so1 hm2
      exact K2 ls (lv_sub hl [] rfl)
theorem m_isNone_ds : yX3_isNone.cls = RX3 ∧ yX3_isNone.cls ≠ "java/lang/invoke/MethodHandle" ∧ yX3_isNone.cls ≠ "java/lang/invoke/VarHandle" ∧ (parseMethodDescriptor yX3_isNone.desc).map (fun d => d.parameters.length) = some 0 := by decide +kernel
/-! grows -/
def m_grows_L2 : Nat → (Nat → Int32) → (Nat → Nat → Int32) → Int32 → Option ((Nat → Int32) × (Nat → Nat → Int32) × Int32)
  | 0, _, _, _ => none
  | n + 1, I, A, x1 =>
    ob1 (ldO (A 0) 2044 6) fun (v1 : Int32) =>
    if v1 ≤ x1 then (some (I, A, x1)) else (ob1 (ldO (A 0) 2044 (15 + x1)) fun (v3 : Int32) =>
      ob1 (ldO (A 0) 2044 (10 + x1)) fun (v4 : Int32) =>
      ob1 (if v4 < 4 then ((some 0 : Option (Int32))) else (ob1 (ldO (A 0) 2044 (15 + x1)) fun (v7 : Int32) =>
          if 99 ≤ v7 then ((some 0 : Option (Int32))) else ((some 1 : Option (Int32))))) fun (v5 : Int32) =>
      ob1 (stO (A 0) 2044 (15 + x1) (v3 + v5)) fun (f9 : Nat → Int32) =>
      m_grows_L2 n I (va_up A 0 f9) (x1 + 1))
set_option maxRecDepth 100000 in
set_option maxHeartbeats 4000000 in
theorem m_grows_L2_w {p : Program} {l : Launch} {e : Env} {R0 : Room} {s : State} {m : MethodId} {args : Array Value} {below : List Frame} {meth : Method} {c : Code} {cells slots : Nat} {Q : State → Prop} {D : dd_} {ad : Nat → Nat} (hx : p.tables.exec = Jvm.exec) (hb : c.code = cX3_grows) (hml : c.maxLocals = 2) (hown : s.vm.findClass RX3 = some m.cls) (hts : ∀ w ∈ lw_all, w.before args s = true) (hK : Kx D s) (hRf : 1 ≤ R0.frames) (hRl : 16 ≤ R0.locals) (hcs : cells ≤ R0.cells ∧ slots ≤ R0.slots) (hI : Inj mS ad) (I9 : (Nat → Int32)) (A9 : (Nat → Nat → Int32)) (y1 : Int32) (KX : ∀ (H : Heap) (locs : List Loc) (ls : Array Slot), WH D mS ad I9 A9 nR nG H → va_S (frS mS ad) s.heap H locs → lv_has ls 2 [] → W p l e R0 s m args below meth c H locs cells slots Q (F0 m 63 ls [])) : ∀ (n : Nat) (I : (Nat → Int32)) (A : (Nat → Nat → Int32)) (x1 : Int32) (H : Heap) (locs : List Loc) (ls : Array Slot), m_grows_L2 n I A x1 = some (I9, A9, y1) → WH D mS ad I A nR nG H → va_S (frS mS ad) s.heap H locs → lv_has ls 2 [(0, .ref (ad 99)), (1, .int x1)] → W p l e R0 s m args below meth c H locs cells slots Q (F0 m 2 ls []) := by
  intro n
  have hA : ∀ i ∈ idxS mS, frS mS ad (ad i) := fun i hi => ⟨i, hi, rfl⟩
  induction n with
  | zero =>
    intro I A x1 H locs ls hf
    exact nomatch (show (none : Option ((Nat → Int32) × (Nat → Nat → Int32) × Int32)) = some (I9, A9, y1) from hf)
  | succ n ih =>
    intro I A x1 H locs ls hf hW hS hl
    have hf : (ob1 (ldO (A 0) 2044 6) fun (v1 : Int32) =>
        if v1 ≤ x1 then (some (I, A, x1)) else (ob1 (ldO (A 0) 2044 (15 + x1)) fun (v3 : Int32) =>
          ob1 (ldO (A 0) 2044 (10 + x1)) fun (v4 : Int32) =>
          ob1 (if v4 < 4 then ((some 0 : Option (Int32))) else (ob1 (ldO (A 0) 2044 (15 + x1)) fun (v7 : Int32) =>
              if 99 ≤ v7 then ((some 0 : Option (Int32))) else ((some 1 : Option (Int32))))) fun (v5 : Int32) =>
          ob1 (stO (A 0) 2044 (15 + x1) (v3 + v5)) fun (f9 : Nat → Int32) =>
          m_grows_L2 n I (va_up A 0 f9) (x1 + 1))) = some (I9, A9, y1) := hf
    refine lv_iload_n hx hb dX3_grows_2 rfl (lv_at hl 1 rfl) ?_
    refine lv_aload_n hx hb dX3_grows_3 rfl (lv_at hl 0 rfl) ?_
    refine g_get (v := .ref (ad 0)) hx hb hts hown hK hW mO in_X3 rfl 0 (by decide) q1212 rfl rfl dX3_grows_4 ?_
    refine lv_bipush (v := 6) hx hb dX3_grows_7 (by decide) ?_
    obtain ⟨v1, hv1, hf⟩ := ob1_e hf
    refine g_iald hx hb hK hW mA0 hv1 dX3_grows_9 ?_
    refine lv_icmp_ge (tgt := 63) hx hb dX3_grows_10 (by decide) (fun c2 => ?_) (fun c2 => ?_)
    · rw [if_pos c2] at hf
      obtain ⟨rfl, rfl, rfl⟩ := so3 hf
      exact KX _ _ ls hW hS (lv_sub hl [] rfl)
    · rw [if_neg c2] at hf
      refine lv_aload_n hx hb dX3_grows_13 rfl (lv_at hl 0 rfl) ?_
      refine g_get (v := .ref (ad 0)) hx hb hts hown hK hW mO in_X3 rfl 0 (by decide) q1212 rfl rfl dX3_grows_14 ?_
      refine lv_bipush (v := 15) hx hb dX3_grows_17 (by decide) ?_
      refine lv_iload_n hx hb dX3_grows_19 rfl (lv_at hl 1 rfl) ?_
      refine lv_iadd hx hb dX3_grows_20 ?_
      refine lv_dup2_11 hx hb dX3_grows_21 rfl rfl ?_
      obtain ⟨v3, hv3, hf⟩ := ob1_e hf
      refine g_iald hx hb hK hW mA0 hv3 dX3_grows_22 ?_
      refine lv_aload_n hx hb dX3_grows_23 rfl (lv_at hl 0 rfl) ?_
      refine g_get (v := .ref (ad 0)) hx hb hts hown hK hW mO in_X3 rfl 0 (by decide) q1212 rfl rfl dX3_grows_24 ?_
      refine lv_bipush (v := 10) hx hb dX3_grows_27 (by decide) ?_
      refine lv_iload_n hx hb dX3_grows_29 rfl (lv_at hl 1 rfl) ?_
      refine lv_iadd hx hb dX3_grows_30 ?_
      obtain ⟨v4, hv4, hf⟩ := ob1_e hf
      refine g_iald hx hb hK hW mA0 hv4 dX3_grows_31 ?_
      refine lv_iconst (v := 4) hx hb dX3_grows_32 (by decide) ?_
      obtain ⟨v5, hm5, hf⟩ := ob1_e hf
      refine w_cutL (nL := 2) (L := [(0, .ref (ad 99)), (1, .int x1)]) (pcj := 55) (st := [.int v5, .int v3, .int (15 + x1), .ref (ad 0)]) (fun ls hl => ?_) (fun K5 => ?_)
      · refine lv_iadd hx hb dX3_grows_55 ?_
        obtain ⟨f9, hf9, hf⟩ := ob1_e hf
        refine g_iast hx hb hK mwf hI hA hW hS mA0 hf9 dX3_grows_56 (fun H locs hW hS => ?_)
        refine lv_iinc (v := x1 + 1) (lv' := [(1, .int (x1 + 1)), (0, .ref (ad 99))]) hx hb dX3_grows_57 hl (k := 1) rfl (by rfl) (by decide) rfl (fun ls hl => ?_)
        refine lv_goto (tgt := 2) hx hb dX3_grows_60 (by decide) ?_
        exact ih I (va_up A 0 f9) (x1 + 1) _ _ ls hf hW hS (lv_sub hl [1, 0] rfl)
      · refine lv_icmp_lt (tgt := 54) hx hb dX3_grows_33 (by decide) (fun c6 => ?_) (fun c6 => ?_)
        · rw [if_pos c6] at hm5
          refine lv_iconst (v := 0) hx hb dX3_grows_54 (by decide) ?_
          obtain rfl := so1 hm5
          exact K5 ls (lv_sub hl [0, 1] rfl)
        · rw [if_neg c6] at hm5
          refine lv_aload_n hx hb dX3_grows_36 rfl (lv_at hl 0 rfl) ?_
          refine g_get (v := .ref (ad 0)) hx hb hts hown hK hW mO in_X3 rfl 0 (by decide) q1212 rfl rfl dX3_grows_37 ?_
          refine lv_bipush (v := 15) hx hb dX3_grows_40 (by decide) ?_
          refine lv_iload_n hx hb dX3_grows_42 rfl (lv_at hl 1 rfl) ?_
          refine lv_iadd hx hb dX3_grows_43 ?_
          obtain ⟨v7, hv7, hm5⟩ := ob1_e hm5
          refine g_iald hx hb hK hW mA0 hv7 dX3_grows_44 ?_
          refine lv_bipush (v := 99) hx hb dX3_grows_45 (by decide) ?_
          refine lv_icmp_ge (tgt := 54) hx hb dX3_grows_47 (by decide) (fun c8 => ?_) (fun c8 => ?_)
          · rw [if_pos c8] at hm5
            refine lv_iconst (v := 0) hx hb dX3_grows_54 (by decide) ?_
            obtain rfl := so1 hm5
            exact K5 ls (lv_sub hl [0, 1] rfl)
          · rw [if_neg c8] at hm5
            refine lv_iconst (v := 1) hx hb dX3_grows_50 (by decide) ?_
            refine lv_goto (tgt := 55) hx hb dX3_grows_51 (by decide) ?_
            obtain rfl := so1 hm5
            exact K5 ls (lv_sub hl [0, 1] rfl)
def m_grows (I : Nat → Int32) (A : Nat → Nat → Int32) : Option ((Nat → Int32) × (Nat → Nat → Int32)) :=
  ob3 (m_grows_L2 NF I A 0) fun (I1 : Nat → Int32) (A2 : Nat → Nat → Int32) (v3 : Int32) =>
  some (I1, A2)
set_option maxRecDepth 100000 in
set_option maxHeartbeats 4000000 in
theorem m_grows_met (l : Launch) (D : dd_) (ad : Nat → Nat) (hI : Inj mS ad) (I : Nat → Int32) (A : Nat → Nat → Int32) (I1 : (Nat → Int32)) (A1 : (Nat → Nat → Int32)) (hf : m_grows I A  = some (I1, A1)) : Met l yX3_grows (ws_ yX3_grows cX3_grows 2 none) ({ frames := 1, cells := 0, slots := 0, locals := 16 }) (PcW D mS ad I A nR nG [.ref (ad 99)]) (QcW D mS ad I1 A1 nR nG (none)) 0 0 (frS mS ad) := by
  refine Met.ofW (cc := cX3_grows) (maxL := 2) (ret := none) (by decide) rfl ?_
  intro p e s m args below meth c s₁ B hml hv
  obtain ⟨rfl, hK, hW⟩ := hv
  have hx := B.exec
  have hb := B.bytes
  have hr := B.returns
  have hts := atoms_spec (ws := (ws_ yX3_grows cX3_grows 2 none)) B.pre
  have hts : ∀ w ∈ lw_all, w.before _ s = true := fun w h => hts w (List.mem_cons_of_mem _ h)
  have hown : s.vm.findClass RX3 = some m.cls := findClass_of_methodNamed B.named
  have hlocks := B.notSynchronized
  have hRf : 1 ≤ (headSpec (ws_ yX3_grows cX3_grows 2 none) ({ frames := 1, cells := 0, slots := 0, locals := 16 })).room.frames := Nat.le_refl _
  have hRl : 16 ≤ (headSpec (ws_ yX3_grows cX3_grows 2 none) ({ frames := 1, cells := 0, slots := 0, locals := 16 })).room.locals := Nat.le_refl _
  have hcs : 0 ≤ (headSpec (ws_ yX3_grows cX3_grows 2 none) ({ frames := 1, cells := 0, slots := 0, locals := 16 })).room.cells ∧ 0 ≤ (headSpec (ws_ yX3_grows cX3_grows 2 none) ({ frames := 1, cells := 0, slots := 0, locals := 16 })).room.slots := ⟨Nat.zero_le _, Nat.zero_le _⟩
  have hA : ∀ i ∈ idxS mS, frS mS ad (ad i) := fun i hi => ⟨i, hi, rfl⟩
  have hS : va_S (frS mS ad) s.heap s.heap [] := va_S.rf
  have hl := lv_entry ([.ref (ad 99)]) (n := 2) (Nat.le_of_ble_eq_true rfl)
  rw [lg_entry_eq]
  generalize (lg_sl ([.ref (ad 99)]) ++ List.replicate (2 - (lg_sl ([.ref (ad 99)])).length) Slot.unset).toArray = ls at hl ⊢
  have hl : lv_has ls 2 [(0, .ref (ad 99))] := hl
  have hf : (ob3 (m_grows_L2 NF I A 0) fun (I1 : Nat → Int32) (A2 : Nat → Nat → Int32) (v3 : Int32) =>
    some (I1, A2)) = some (I1, A1) := hf
  refine lv_iconst (v := 0) hx hb dX3_grows_0 (by decide) ?_
  refine lv_istore_n (lv' := [(1, .int 0), (0, .ref (ad 99))]) hx hb dX3_grows_1 rfl hl (by decide) rfl (fun ls hl => ?_)
  obtain ⟨I1, A2, v3, hq3, hf⟩ := ob3_e hf
  refine m_grows_L2_w hx hb hml hown hts hK hRf hRl hcs hI I1 A2 v3 (fun H locs ls hW hS hl => ?_) NF I A 0 _ _ ls hq3 hW hS (lv_sub hl [1, 0] rfl)
  obtain ⟨rfl, rfl⟩ := so2 hf
  exact W.vret hx hb hr (fun t ht _ => ⟨rfl, by rw [ht]; exact hW, hS.F ht⟩) hS.2.2 dX3_grows_63
theorem m_grows_ds : yX3_grows.cls = RX3 ∧ yX3_grows.cls ≠ "java/lang/invoke/MethodHandle" ∧ yX3_grows.cls ≠ "java/lang/invoke/VarHandle" ∧ (parseMethodDescriptor yX3_grows.desc).map (fun d => d.parameters.length) = some 0 := by decide +kernel
/-! days -/
def m_days_L45 (u1 : Int32) : Nat → (Nat → Int32) → (Nat → Nat → Int32) → Int32 → Option ((Nat → Int32) × (Nat → Nat → Int32) × Int32)
  | 0, _, _, _ => none
  | n + 1, I, A, x2 =>
    if u1 ≤ x2 then (some (I, A, x2)) else (ob2 (m_minds I A ) fun (I2 : Nat → Int32) (A3 : Nat → Nat → Int32) =>
      ob2 (m_grows I2 A3 ) fun (I4 : Nat → Int32) (A5 : Nat → Nat → Int32) =>
      ob1 (ldO (A5 0) 2044 8) fun (v6 : Int32) =>
      ob1 (stO (A5 0) 2044 8 (v6 + 1)) fun (f7 : Nat → Int32) =>
      m_days_L45 u1 n I4 (va_up A5 0 f7) (x2 + 1))
set_option maxRecDepth 100000 in
set_option maxHeartbeats 4000000 in
theorem m_days_L45_w {p : Program} {l : Launch} {e : Env} {R0 : Room} {s : State} {m : MethodId} {args : Array Value} {below : List Frame} {meth : Method} {c : Code} {cells slots : Nat} {Q : State → Prop} {D : dd_} {ad : Nat → Nat} (hx : p.tables.exec = Jvm.exec) (hb : c.code = cX3_days) (hml : c.maxLocals = 3) (hown : s.vm.findClass RX3 = some m.cls) (hts : ∀ w ∈ lw_all, w.before args s = true) (hK : Kx D s) (hRf : 2 ≤ R0.frames) (hRl : 41 ≤ R0.locals) (hcs : cells ≤ R0.cells ∧ slots ≤ R0.slots) (hI : Inj mS ad) (u1 : Int32) (I9 : (Nat → Int32)) (A9 : (Nat → Nat → Int32)) (y2 : Int32) (KX : ∀ (H : Heap) (locs : List Loc) (ls : Array Slot), WH D mS ad I9 A9 nR nG H → va_S (frS mS ad) s.heap H locs → lv_has ls 3 [(0, .ref (ad 99))] → W p l e R0 s m args below meth c H locs cells slots Q (F0 m 75 ls [])) : ∀ (n : Nat) (I : (Nat → Int32)) (A : (Nat → Nat → Int32)) (x2 : Int32) (H : Heap) (locs : List Loc) (ls : Array Slot), m_days_L45 u1 n I A x2 = some (I9, A9, y2) → WH D mS ad I A nR nG H → va_S (frS mS ad) s.heap H locs → lv_has ls 3 [(0, .ref (ad 99)), (1, .int u1), (2, .int x2)] → W p l e R0 s m args below meth c H locs cells slots Q (F0 m 45 ls []) := by
  intro n
  have hA : ∀ i ∈ idxS mS, frS mS ad (ad i) := fun i hi => ⟨i, hi, rfl⟩
  induction n with
  | zero =>
    intro I A x2 H locs ls hf
    exact nomatch (show (none : Option ((Nat → Int32) × (Nat → Nat → Int32) × Int32)) = some (I9, A9, y2) from hf)
  | succ n ih =>
    intro I A x2 H locs ls hf hW hS hl
    have hf : (if u1 ≤ x2 then (some (I, A, x2)) else (ob2 (m_minds I A ) fun (I2 : Nat → Int32) (A3 : Nat → Nat → Int32) =>
          ob2 (m_grows I2 A3 ) fun (I4 : Nat → Int32) (A5 : Nat → Nat → Int32) =>
          ob1 (ldO (A5 0) 2044 8) fun (v6 : Int32) =>
          ob1 (stO (A5 0) 2044 8 (v6 + 1)) fun (f7 : Nat → Int32) =>
          m_days_L45 u1 n I4 (va_up A5 0 f7) (x2 + 1))) = some (I9, A9, y2) := hf
    refine lv_iload_n hx hb dX3_days_45 rfl (lv_at hl 2 rfl) ?_
    refine lv_iload_n hx hb dX3_days_46 rfl (lv_at hl 1 rfl) ?_
    refine lv_icmp_ge (tgt := 75) hx hb dX3_days_47 (by decide) (fun c1 => ?_) (fun c1 => ?_)
    · rw [if_pos c1] at hf
      obtain ⟨rfl, rfl, rfl⟩ := so3 hf
      exact KX _ _ ls hW hS (lv_sub hl [0] rfl)
    · rw [if_neg c1] at hf
      refine lv_aload_n hx hb dX3_days_50 rfl (lv_at hl 0 rfl) ?_
      obtain ⟨I2, A3, h3, hf⟩ := ob2_e hf
      refine g_vW (ov := none) (D := D) (Sc := mS) (adc := ad) (Ic := I) (Ac := A) (Rc := nR) (Gc := nG) (As := []) (rest := []) (Ic1 := I2) (Ac1 := A3) (Rc1 := nR) (Gc1 := nG) (b := ad 99) (C := RX3) ⟨hx, hb, hml, hown, hts⟩ (m_minds_met l D ad hI I A  I2 A3 h3) (g_cwV 0 hts (lw_V q1420 q1422 qs51 q82 q1423) rfl rfl m_minds_ds ⟨Nat.le_trans (Nat.le_of_ble_eq_true rfl) hRf, Nat.le_trans (Nat.le_of_ble_eq_true rfl) hRl⟩) (g_recv hK hW mO rfl) hK hW hS hA hcs rfl hl.1 rfl (Nat.le_of_ble_eq_true rfl) dX3_days_51 (fun H locs hW _ hS => ?_)
      refine lv_aload_n hx hb dX3_days_54 rfl (lv_at hl 0 rfl) ?_
      obtain ⟨I4, A5, h5, hf⟩ := ob2_e hf
      refine g_vW (ov := none) (D := D) (Sc := mS) (adc := ad) (Ic := I2) (Ac := A3) (Rc := nR) (Gc := nG) (As := []) (rest := []) (Ic1 := I4) (Ac1 := A5) (Rc1 := nR) (Gc1 := nG) (b := ad 99) (C := RX3) ⟨hx, hb, hml, hown, hts⟩ (m_grows_met l D ad hI I2 A3  I4 A5 h5) (g_cwV 0 hts (lw_V q1451 q1453 qs54 q82 q1454) rfl rfl m_grows_ds ⟨Nat.le_trans (Nat.le_of_ble_eq_true rfl) hRf, Nat.le_trans (Nat.le_of_ble_eq_true rfl) hRl⟩) (g_recv hK hW mO rfl) hK hW hS hA hcs rfl hl.1 rfl (Nat.le_of_ble_eq_true rfl) dX3_days_55 (fun H locs hW _ hS => ?_)
      refine lv_aload_n hx hb dX3_days_58 rfl (lv_at hl 0 rfl) ?_
      refine g_get (v := .ref (ad 0)) hx hb hts hown hK hW mO in_X3 rfl 0 (by decide) q1212 rfl rfl dX3_days_59 ?_
      refine lv_bipush (v := 8) hx hb dX3_days_62 (by decide) ?_
      refine lv_dup2_11 hx hb dX3_days_64 rfl rfl ?_
      obtain ⟨v6, hv6, hf⟩ := ob1_e hf
      refine g_iald hx hb hK hW mA0 hv6 dX3_days_65 ?_
      refine lv_iconst (v := 1) hx hb dX3_days_66 (by decide) ?_
      refine lv_iadd hx hb dX3_days_67 ?_
      obtain ⟨f7, hf7, hf⟩ := ob1_e hf
      refine g_iast hx hb hK mwf hI hA hW hS mA0 hf7 dX3_days_68 (fun H locs hW hS => ?_)
      refine lv_iinc (v := x2 + 1) (lv' := [(2, .int (x2 + 1)), (0, .ref (ad 99)), (1, .int u1)]) hx hb dX3_days_69 hl (k := 2) rfl (by rfl) (by decide) rfl (fun ls hl => ?_)
      refine lv_goto (tgt := 45) hx hb dX3_days_72 (by decide) ?_
      exact ih I4 (va_up A5 0 f7) (x2 + 1) _ _ ls hf hW hS (lv_sub hl [1, 2, 0] rfl)
def m_days (I : Nat → Int32) (A : Nat → Nat → Int32) (a0 : Int32) : Option (Int32 × (Nat → Int32) × (Nat → Nat → Int32)) :=
  ob1 (m_isNone I A ) fun (v1 : Int32) =>
  if v1 = 0 then (ob1 (m_in a0.toInt64 1 24) fun (v3 : Int32) =>
    if v3 = 0 then (some ((-1000001), I, A)) else (ob1 (ldO (A 0) 2044 8) fun (v5 : Int32) =>
      if (v5 + a0) ≤ 999 then (ob3 (m_days_L45 a0 NF I A 0) fun (I7 : Nat → Int32) (A8 : Nat → Nat → Int32) (v9 : Int32) =>
        ob1 (ldO (A8 0) 2044 8) fun (v10 : Int32) =>
        some (v10, I7, A8)) else (some ((-1000003), I, A)))) else (some ((-1000002), I, A))
set_option maxRecDepth 100000 in
set_option maxHeartbeats 4000000 in
theorem m_days_met (l : Launch) (D : dd_) (ad : Nat → Nat) (hI : Inj mS ad) (I : Nat → Int32) (A : Nat → Nat → Int32) (a0 : Int32) (r : Int32) (I1 : (Nat → Int32)) (A1 : (Nat → Nat → Int32)) (hf : m_days I A a0 = some (r, I1, A1)) : Met l yX3_days (ws_ yX3_days cX3_days 3 (some .int)) ({ frames := 2, cells := 0, slots := 0, locals := 41 }) (PcW D mS ad I A nR nG [.ref (ad 99), .int a0]) (QcW D mS ad I1 A1 nR nG (some (.int r))) 0 0 (frS mS ad) := by
  refine Met.ofW (cc := cX3_days) (maxL := 3) (ret := (some .int)) (by decide) rfl ?_
  intro p e s m args below meth c s₁ B hml hv
  obtain ⟨rfl, hK, hW⟩ := hv
  have hx := B.exec
  have hb := B.bytes
  have hr := B.returns
  have hts := atoms_spec (ws := (ws_ yX3_days cX3_days 3 (some .int))) B.pre
  have hts : ∀ w ∈ lw_all, w.before _ s = true := fun w h => hts w (List.mem_cons_of_mem _ h)
  have hown : s.vm.findClass RX3 = some m.cls := findClass_of_methodNamed B.named
  have hlocks := B.notSynchronized
  have hRf : 2 ≤ (headSpec (ws_ yX3_days cX3_days 3 (some .int)) ({ frames := 2, cells := 0, slots := 0, locals := 41 })).room.frames := Nat.le_refl _
  have hRl : 41 ≤ (headSpec (ws_ yX3_days cX3_days 3 (some .int)) ({ frames := 2, cells := 0, slots := 0, locals := 41 })).room.locals := Nat.le_refl _
  have hcs : 0 ≤ (headSpec (ws_ yX3_days cX3_days 3 (some .int)) ({ frames := 2, cells := 0, slots := 0, locals := 41 })).room.cells ∧ 0 ≤ (headSpec (ws_ yX3_days cX3_days 3 (some .int)) ({ frames := 2, cells := 0, slots := 0, locals := 41 })).room.slots := ⟨Nat.zero_le _, Nat.zero_le _⟩
  have hA : ∀ i ∈ idxS mS, frS mS ad (ad i) := fun i hi => ⟨i, hi, rfl⟩
  have hS : va_S (frS mS ad) s.heap s.heap [] := va_S.rf
  have hl := lv_entry ([.ref (ad 99), .int a0]) (n := 3) (Nat.le_of_ble_eq_true rfl)
  rw [lg_entry_eq]
  generalize (lg_sl ([.ref (ad 99), .int a0]) ++ List.replicate (3 - (lg_sl ([.ref (ad 99), .int a0])).length) Slot.unset).toArray = ls at hl ⊢
  have hl : lv_has ls 3 [(0, .ref (ad 99)), (1, .int a0)] := hl
  have hf : (ob1 (m_isNone I A ) fun (v1 : Int32) =>
    if v1 = 0 then (ob1 (m_in a0.toInt64 1 24) fun (v3 : Int32) =>
      if v3 = 0 then (some ((-1000001), I, A)) else (ob1 (ldO (A 0) 2044 8) fun (v5 : Int32) =>
        if (v5 + a0) ≤ 999 then (ob3 (m_days_L45 a0 NF I A 0) fun (I7 : Nat → Int32) (A8 : Nat → Nat → Int32) (v9 : Int32) =>
          ob1 (ldO (A8 0) 2044 8) fun (v10 : Int32) =>
          some (v10, I7, A8)) else (some ((-1000003), I, A)))) else (some ((-1000002), I, A))) = some (r, I1, A1) := hf
  refine lv_aload_n hx hb dX3_days_0 rfl (lv_at hl 0 rfl) ?_
  obtain ⟨v1, h1, hf⟩ := ob1_e hf
  refine g_vR (ov := some (.int v1)) (D := D) (Sc := mS) (adc := ad) (Ic := I) (Ac := A) (Rc := nR) (Gc := nG) (As := []) (rest := []) (b := ad 99) (C := RX3) ⟨hx, hb, hml, hown, hts⟩ (m_isNone_met l D ad I A  v1 h1) (g_cwV 0 hts (lw_V q1446 q1448 qs53 q82 q1449) rfl rfl m_isNone_ds ⟨Nat.le_trans (Nat.le_of_ble_eq_true rfl) hRf, Nat.le_trans (Nat.le_of_ble_eq_true rfl) hRl⟩) (g_recv hK hW mO rfl) hK hW hcs rfl hl.1 rfl (Nat.le_of_ble_eq_true rfl) dX3_days_1 ?_
  refine lv_if_eq (tgt := 10) hx hb dX3_days_4 (by decide) (fun c2 => ?_) (fun c2 => ?_)
  · rw [if_pos c2] at hf
    refine lv_iload_n hx hb dX3_days_10 rfl (lv_at hl 1 rfl) ?_
    refine lv_i2l (v := a0.toInt64) hx hb dX3_days_11 rfl ?_
    refine lv_lconst (v := 1) hx hb dX3_days_12 (by decide) ?_
    refine lv_ldc2 (v := 24) hx hb hown (hts _ q1450) dX3_days_13 ?_
    obtain ⟨v3, h3, hf⟩ := ob1_e hf
    refine g_sR (ov := some (.int v3)) (D := D) (Sc := nS) (adc := ad) (Ic := (fun _ => 0)) (Ac := (fun _ _ => 0)) (Rc := nR) (Gc := nG) (As := [.long a0.toInt64, .long 1, .long 24]) (rest := []) ⟨hx, hb, hml, hown, hts⟩ (m_in_met l D ad a0.toInt64 1 24 v3 h3) (va_cwS 3 hts (lw_S q1294 q1295 q82 q1296) rfl rfl rfl m_in_ds.2 ⟨Nat.le_trans (Nat.le_of_ble_eq_true rfl) hRf, Nat.le_trans (Nat.le_of_ble_eq_true rfl) hRl⟩) hK WH_nil hcs rfl hl.1 rfl (Nat.le_of_ble_eq_true rfl) dX3_days_16 ?_
    refine lv_if_ne (tgt := 25) hx hb dX3_days_19 (by decide) (fun c4 => ?_) (fun c4 => ?_)
    · rw [if_neg c4] at hf
      refine lv_aload_n hx hb dX3_days_25 rfl (lv_at hl 0 rfl) ?_
      refine g_get (v := .ref (ad 0)) hx hb hts hown hK hW mO in_X3 rfl 0 (by decide) q1212 rfl rfl dX3_days_26 ?_
      refine lv_bipush (v := 8) hx hb dX3_days_29 (by decide) ?_
      obtain ⟨v5, hv5, hf⟩ := ob1_e hf
      refine g_iald hx hb hK hW mA0 hv5 dX3_days_31 ?_
      refine lv_iload_n hx hb dX3_days_32 rfl (lv_at hl 1 rfl) ?_
      refine lv_iadd hx hb dX3_days_33 ?_
      refine lv_sipush (v := 999) hx hb dX3_days_34 (by decide) ?_
      refine lv_icmp_le (tgt := 43) hx hb dX3_days_37 (by decide) (fun c6 => ?_) (fun c6 => ?_)
      · rw [if_pos c6] at hf
        refine lv_iconst (v := 0) hx hb dX3_days_43 (by decide) ?_
        refine lv_istore_n (lv' := [(2, .int 0), (0, .ref (ad 99)), (1, .int a0)]) hx hb dX3_days_44 rfl hl (by decide) rfl (fun ls hl => ?_)
        obtain ⟨I7, A8, v9, hq9, hf⟩ := ob3_e hf
        refine m_days_L45_w hx hb hml hown hts hK hRf hRl hcs hI a0 I7 A8 v9 (fun H locs ls hW hS hl => ?_) NF I A 0 _ _ ls hq9 hW hS (lv_sub hl [1, 2, 0] rfl)
        refine lv_aload_n hx hb dX3_days_75 rfl (lv_at hl 0 rfl) ?_
        refine g_get (v := .ref (ad 0)) hx hb hts hown hK hW mO in_X3 rfl 0 (by decide) q1212 rfl rfl dX3_days_76 ?_
        refine lv_bipush (v := 8) hx hb dX3_days_79 (by decide) ?_
        obtain ⟨v10, hv10, hf⟩ := ob1_e hf
        refine g_iald hx hb hK hW mA0 hv10 dX3_days_81 ?_
        obtain ⟨rfl, rfl, rfl⟩ := so3 hf
        exact W.iret hx hb hr (fun t ht _ => ⟨rfl, by rw [ht]; exact hW, hS.F ht⟩) hS.2.2 dX3_days_82
      · rw [if_neg c6] at hf
        refine lv_ldc (v := (-1000003)) hx hb hown (hts _ q1332) dX3_days_40 ?_
        obtain ⟨rfl, rfl, rfl⟩ := so3 hf
        exact W.iret hx hb hr (fun t ht _ => ⟨rfl, by rw [ht]; exact hW, hS.F ht⟩) hS.2.2 dX3_days_42
    · rw [if_pos c4] at hf
      refine lv_ldc (v := (-1000001)) hx hb hown (hts _ q1298) dX3_days_22 ?_
      obtain ⟨rfl, rfl, rfl⟩ := so3 hf
      exact W.iret hx hb hr (fun t ht _ => ⟨rfl, by rw [ht]; exact hW, hS.F ht⟩) hS.2.2 dX3_days_24
  · rw [if_neg c2] at hf
    refine lv_ldc (v := (-1000002)) hx hb hown (hts _ q1391) dX3_days_7 ?_
    obtain ⟨rfl, rfl, rfl⟩ := so3 hf
    exact W.iret hx hb hr (fun t ht _ => ⟨rfl, by rw [ht]; exact hW, hS.F ht⟩) hS.2.2 dX3_days_9
theorem m_days_ds : yX3_days.cls = RX3 ∧ yX3_days.cls ≠ "java/lang/invoke/MethodHandle" ∧ yX3_days.cls ≠ "java/lang/invoke/VarHandle" ∧ (parseMethodDescriptor yX3_days.desc).map (fun d => d.parameters.length) = some 1 := by decide +kernel
/-! isCrushed -/
def m_isCrushed (I : Nat → Int32) (A : Nat → Nat → Int32) (a0 : Int32) : Option (Int32) :=
  ob1 (m_loadOf I A a0) fun (v1 : Int32) =>
  ob1 (ldO (A 0) 2044 (15 + a0)) fun (v2 : Int32) =>
  ob1 (if v1 ≤ v2 then ((some 0 : Option (Int32))) else ((some 1 : Option (Int32)))) fun (v3 : Int32) =>
  zO v3
set_option maxRecDepth 100000 in
set_option maxHeartbeats 4000000 in
theorem m_isCrushed_met (l : Launch) (D : dd_) (ad : Nat → Nat) (I : Nat → Int32) (A : Nat → Nat → Int32) (a0 : Int32) (r : Int32) (hf : m_isCrushed I A a0 = some r) : Met l yX3_isCrushed (ws_ yX3_isCrushed cX3_isCrushed 2 (some .boolean)) ({ frames := 4, cells := 0, slots := 0, locals := 82 }) (PcW D mS ad I A nR nG [.ref (ad 99), .int a0]) (QcR (some (.int r))) 0 0 (fun _ => False) := by
  refine Met.ofW (cc := cX3_isCrushed) (maxL := 2) (ret := (some .boolean)) (by decide) rfl ?_
  intro p e s m args below meth c s₁ B hml hv
  obtain ⟨rfl, hK, hW⟩ := hv
  have hx := B.exec
  have hb := B.bytes
  have hr := B.returns
  have hts := atoms_spec (ws := (ws_ yX3_isCrushed cX3_isCrushed 2 (some .boolean))) B.pre
  have hts : ∀ w ∈ lw_all, w.before _ s = true := fun w h => hts w (List.mem_cons_of_mem _ h)
  have hown : s.vm.findClass RX3 = some m.cls := findClass_of_methodNamed B.named
  have hlocks := B.notSynchronized
  have hRf : 4 ≤ (headSpec (ws_ yX3_isCrushed cX3_isCrushed 2 (some .boolean)) ({ frames := 4, cells := 0, slots := 0, locals := 82 })).room.frames := Nat.le_refl _
  have hRl : 82 ≤ (headSpec (ws_ yX3_isCrushed cX3_isCrushed 2 (some .boolean)) ({ frames := 4, cells := 0, slots := 0, locals := 82 })).room.locals := Nat.le_refl _
  have hcs : 0 ≤ (headSpec (ws_ yX3_isCrushed cX3_isCrushed 2 (some .boolean)) ({ frames := 4, cells := 0, slots := 0, locals := 82 })).room.cells ∧ 0 ≤ (headSpec (ws_ yX3_isCrushed cX3_isCrushed 2 (some .boolean)) ({ frames := 4, cells := 0, slots := 0, locals := 82 })).room.slots := ⟨Nat.zero_le _, Nat.zero_le _⟩
  have hl := lv_entry ([.ref (ad 99), .int a0]) (n := 2) (Nat.le_of_ble_eq_true rfl)
  rw [lg_entry_eq]
  generalize (lg_sl ([.ref (ad 99), .int a0]) ++ List.replicate (2 - (lg_sl ([.ref (ad 99), .int a0])).length) Slot.unset).toArray = ls at hl ⊢
  have hl : lv_has ls 2 [(0, .ref (ad 99)), (1, .int a0)] := hl
  have hf : (ob1 (m_loadOf I A a0) fun (v1 : Int32) =>
    ob1 (ldO (A 0) 2044 (15 + a0)) fun (v2 : Int32) =>
    ob1 (if v1 ≤ v2 then ((some 0 : Option (Int32))) else ((some 1 : Option (Int32)))) fun (v3 : Int32) =>
    zO v3) = some r := hf
  refine lv_aload_n hx hb dX3_isCrushed_0 rfl (lv_at hl 0 rfl) ?_
  refine lv_iload_n hx hb dX3_isCrushed_1 rfl (lv_at hl 1 rfl) ?_
  obtain ⟨v1, h1, hf⟩ := ob1_e hf
  refine g_vR (ov := some (.int v1)) (D := D) (Sc := mS) (adc := ad) (Ic := I) (Ac := A) (Rc := nR) (Gc := nG) (As := [.int a0]) (rest := []) (b := ad 99) (C := RX3) ⟨hx, hb, hml, hown, hts⟩ (m_loadOf_met l D ad I A a0 v1 h1) (g_cwV 1 hts (lw_V q1409 q1411 qs49 q82 q1412) rfl rfl m_loadOf_ds ⟨Nat.le_trans (Nat.le_of_ble_eq_true rfl) hRf, Nat.le_trans (Nat.le_of_ble_eq_true rfl) hRl⟩) (g_recv hK hW mO rfl) hK hW hcs rfl hl.1 rfl (Nat.le_of_ble_eq_true rfl) dX3_isCrushed_2 ?_
  refine lv_aload_n hx hb dX3_isCrushed_5 rfl (lv_at hl 0 rfl) ?_
  refine g_get (v := .ref (ad 0)) hx hb hts hown hK hW mO in_X3 rfl 0 (by decide) q1212 rfl rfl dX3_isCrushed_6 ?_
  refine lv_bipush (v := 15) hx hb dX3_isCrushed_9 (by decide) ?_
  refine lv_iload_n hx hb dX3_isCrushed_11 rfl (lv_at hl 1 rfl) ?_
  refine lv_iadd hx hb dX3_isCrushed_12 ?_
  obtain ⟨v2, hv2, hf⟩ := ob1_e hf
  refine g_iald hx hb hK hW mA0 hv2 dX3_isCrushed_13 ?_
  obtain ⟨v3, hm3, hf⟩ := ob1_e hf
  refine w_cutL (nL := 2) (L := []) (pcj := 22) (st := [.int v3]) (fun ls hl => ?_) (fun K3 => ?_)
  · obtain ⟨hz, rfl⟩ := zO_e hf
    exact W.zret hx hb hr (nar_z hz) (fun t ht _ => ⟨rfl, ht⟩) (fun q hq => by cases hq) dX3_isCrushed_22
  · refine lv_icmp_le (tgt := 21) hx hb dX3_isCrushed_14 (by decide) (fun c4 => ?_) (fun c4 => ?_)
    · rw [if_pos c4] at hm3
      refine lv_iconst (v := 0) hx hb dX3_isCrushed_21 (by decide) ?_
      obtain rfl := so1 hm3
      exact K3 ls (lv_sub hl [] rfl)
    · rw [if_neg c4] at hm3
      refine lv_iconst (v := 1) hx hb dX3_isCrushed_17 (by decide) ?_
      refine lv_goto (tgt := 22) hx hb dX3_isCrushed_18 (by decide) ?_
      obtain rfl := so1 hm3
      exact K3 ls (lv_sub hl [] rfl)
theorem m_isCrushed_ds : yX3_isCrushed.cls = RX3 ∧ yX3_isCrushed.cls ≠ "java/lang/invoke/MethodHandle" ∧ yX3_isCrushed.cls ≠ "java/lang/invoke/VarHandle" ∧ (parseMethodDescriptor yX3_isCrushed.desc).map (fun d => d.parameters.length) = some 1 := by decide +kernel
/-! person -/
def m_person (I : Nat → Int32) (A : Nat → Nat → Int32) (a0 : Int32) (a1 : Int32) : Option (Int32) :=
  ob1 (m_isPerson I A a0) fun (v1 : Int32) =>
  if v1 = 0 then (some (-1000001)) else (ob1 (m_in a1.toInt64 0 3) fun (v3 : Int32) =>
    if v3 = 0 then (some (-1000001)) else (ob1 (if a1 = 0 then (ob1 (ldO (A 0) 2044 (15 + a0)) fun (v13 : Int32) =>
          (some v13 : Option (Int32))) else (if a1 = 1 then (ob1 (ldO (A 0) 2044 (20 + a0)) fun (v12 : Int32) =>
            (some v12 : Option (Int32))) else (if a1 = 2 then (ob1 (m_loadOf I A a0) fun (v11 : Int32) =>
              (some v11 : Option (Int32))) else (ob1 (m_isCrushed I A a0) fun (v9 : Int32) =>
              if v9 = 0 then ((some 0 : Option (Int32))) else ((some 1 : Option (Int32))))))) fun (v5 : Int32) =>
      some v5))
set_option maxRecDepth 100000 in
set_option maxHeartbeats 4000000 in
theorem m_person_met (l : Launch) (D : dd_) (ad : Nat → Nat) (I : Nat → Int32) (A : Nat → Nat → Int32) (a0 : Int32) (a1 : Int32) (r : Int32) (hf : m_person I A a0 a1 = some r) : Met l yX3_person (ws_ yX3_person cX3_person 3 (some .int)) ({ frames := 5, cells := 0, slots := 0, locals := 103 }) (PcW D mS ad I A nR nG [.ref (ad 99), .int a0, .int a1]) (QcR (some (.int r))) 0 0 (fun _ => False) := by
  refine Met.ofW (cc := cX3_person) (maxL := 3) (ret := (some .int)) (by decide) rfl ?_
  intro p e s m args below meth c s₁ B hml hv
  obtain ⟨rfl, hK, hW⟩ := hv
  have hx := B.exec
  have hb := B.bytes
  have hr := B.returns
  have hts := atoms_spec (ws := (ws_ yX3_person cX3_person 3 (some .int))) B.pre
  have hts : ∀ w ∈ lw_all, w.before _ s = true := fun w h => hts w (List.mem_cons_of_mem _ h)
  have hown : s.vm.findClass RX3 = some m.cls := findClass_of_methodNamed B.named
  have hlocks := B.notSynchronized
  have hRf : 5 ≤ (headSpec (ws_ yX3_person cX3_person 3 (some .int)) ({ frames := 5, cells := 0, slots := 0, locals := 103 })).room.frames := Nat.le_refl _
  have hRl : 103 ≤ (headSpec (ws_ yX3_person cX3_person 3 (some .int)) ({ frames := 5, cells := 0, slots := 0, locals := 103 })).room.locals := Nat.le_refl _
  have hcs : 0 ≤ (headSpec (ws_ yX3_person cX3_person 3 (some .int)) ({ frames := 5, cells := 0, slots := 0, locals := 103 })).room.cells ∧ 0 ≤ (headSpec (ws_ yX3_person cX3_person 3 (some .int)) ({ frames := 5, cells := 0, slots := 0, locals := 103 })).room.slots := ⟨Nat.zero_le _, Nat.zero_le _⟩
  have hl := lv_entry ([.ref (ad 99), .int a0, .int a1]) (n := 3) (Nat.le_of_ble_eq_true rfl)
  rw [lg_entry_eq]
  generalize (lg_sl ([.ref (ad 99), .int a0, .int a1]) ++ List.replicate (3 - (lg_sl ([.ref (ad 99), .int a0, .int a1])).length) Slot.unset).toArray = ls at hl ⊢
  have hl : lv_has ls 3 [(0, .ref (ad 99)), (1, .int a0), (2, .int a1)] := hl
  have hf : (ob1 (m_isPerson I A a0) fun (v1 : Int32) =>
    if v1 = 0 then (some (-1000001)) else (ob1 (m_in a1.toInt64 0 3) fun (v3 : Int32) =>
      if v3 = 0 then (some (-1000001)) else (ob1 (if a1 = 0 then (ob1 (ldO (A 0) 2044 (15 + a0)) fun (v13 : Int32) =>
            (some v13 : Option (Int32))) else (if a1 = 1 then (ob1 (ldO (A 0) 2044 (20 + a0)) fun (v12 : Int32) =>
              (some v12 : Option (Int32))) else (if a1 = 2 then (ob1 (m_loadOf I A a0) fun (v11 : Int32) =>
                (some v11 : Option (Int32))) else (ob1 (m_isCrushed I A a0) fun (v9 : Int32) =>
                if v9 = 0 then ((some 0 : Option (Int32))) else ((some 1 : Option (Int32))))))) fun (v5 : Int32) =>
        some v5))) = some r := hf
  refine lv_aload_n hx hb dX3_person_0 rfl (lv_at hl 0 rfl) ?_
  refine lv_iload_n hx hb dX3_person_1 rfl (lv_at hl 1 rfl) ?_
  obtain ⟨v1, h1, hf⟩ := ob1_e hf
  refine g_vR (ov := some (.int v1)) (D := D) (Sc := mS) (adc := ad) (Ic := I) (Ac := A) (Rc := nR) (Gc := nG) (As := [.int a0]) (rest := []) (b := ad 99) (C := RX3) ⟨hx, hb, hml, hown, hts⟩ (m_isPerson_met l D ad I A a0 v1 h1) (g_cwV 1 hts (lw_V q1396 q1398 qs46 q82 q1399) rfl rfl m_isPerson_ds ⟨Nat.le_trans (Nat.le_of_ble_eq_true rfl) hRf, Nat.le_trans (Nat.le_of_ble_eq_true rfl) hRl⟩) (g_recv hK hW mO rfl) hK hW hcs rfl hl.1 rfl (Nat.le_of_ble_eq_true rfl) dX3_person_2 ?_
  refine lv_if_eq (tgt := 20) hx hb dX3_person_5 (by decide) (fun c2 => ?_) (fun c2 => ?_)
  · rw [if_pos c2] at hf
    refine lv_ldc (v := (-1000001)) hx hb hown (hts _ q1298) dX3_person_20 ?_
    obtain rfl := so1 hf
    exact W.iret hx hb hr (fun t ht _ => ⟨rfl, ht⟩) (fun q hq => by cases hq) dX3_person_22
  · rw [if_neg c2] at hf
    refine lv_iload_n hx hb dX3_person_8 rfl (lv_at hl 2 rfl) ?_
    refine lv_i2l (v := a1.toInt64) hx hb dX3_person_9 rfl ?_
    refine lv_lconst (v := 0) hx hb dX3_person_10 (by decide) ?_
    refine lv_ldc2 (v := 3) hx hb hown (hts _ q1459) dX3_person_11 ?_
    obtain ⟨v3, h3, hf⟩ := ob1_e hf
    refine g_sR (ov := some (.int v3)) (D := D) (Sc := nS) (adc := ad) (Ic := (fun _ => 0)) (Ac := (fun _ _ => 0)) (Rc := nR) (Gc := nG) (As := [.long a1.toInt64, .long 0, .long 3]) (rest := []) ⟨hx, hb, hml, hown, hts⟩ (m_in_met l D ad a1.toInt64 0 3 v3 h3) (va_cwS 3 hts (lw_S q1294 q1295 q82 q1296) rfl rfl rfl m_in_ds.2 ⟨Nat.le_trans (Nat.le_of_ble_eq_true rfl) hRf, Nat.le_trans (Nat.le_of_ble_eq_true rfl) hRl⟩) hK WH_nil hcs rfl hl.1 rfl (Nat.le_of_ble_eq_true rfl) dX3_person_14 ?_
    refine lv_if_ne (tgt := 23) hx hb dX3_person_17 (by decide) (fun c4 => ?_) (fun c4 => ?_)
    · rw [if_neg c4] at hf
      refine lv_iload_n hx hb dX3_person_23 rfl (lv_at hl 2 rfl) ?_
      obtain ⟨v5, hm5, hf⟩ := ob1_e hf
      refine w_cutL (nL := 3) (L := []) (pcj := 82) (st := [.int v5]) (fun ls hl => ?_) (fun K5 => ?_)
      · obtain rfl := so1 hf
        exact W.iret hx hb hr (fun t ht _ => ⟨rfl, ht⟩) (fun q hq => by cases hq) dX3_person_82
      · refine lv_if_ne (tgt := 39) hx hb dX3_person_24 (by decide) (fun c6 => ?_) (fun c6 => ?_)
        · rw [if_neg c6] at hm5
          refine lv_iload_n hx hb dX3_person_39 rfl (lv_at hl 2 rfl) ?_
          refine lv_iconst (v := 1) hx hb dX3_person_40 (by decide) ?_
          refine lv_icmp_ne (tgt := 56) hx hb dX3_person_41 (by decide) (fun c7 => ?_) (fun c7 => ?_)
          · rw [if_neg c7] at hm5
            refine lv_iload_n hx hb dX3_person_56 rfl (lv_at hl 2 rfl) ?_
            refine lv_iconst (v := 2) hx hb dX3_person_57 (by decide) ?_
            refine lv_icmp_ne (tgt := 69) hx hb dX3_person_58 (by decide) (fun c8 => ?_) (fun c8 => ?_)
            · rw [if_neg c8] at hm5
              refine lv_aload_n hx hb dX3_person_69 rfl (lv_at hl 0 rfl) ?_
              refine lv_iload_n hx hb dX3_person_70 rfl (lv_at hl 1 rfl) ?_
              obtain ⟨v9, h9, hm5⟩ := ob1_e hm5
              refine g_vR (ov := some (.int v9)) (D := D) (Sc := mS) (adc := ad) (Ic := I) (Ac := A) (Rc := nR) (Gc := nG) (As := [.int a0]) (rest := []) (b := ad 99) (C := RX3) ⟨hx, hb, hml, hown, hts⟩ (m_isCrushed_met l D ad I A a0 v9 h9) (g_cwV 1 hts (lw_V q1460 q1462 qs55 q82 q1463) rfl rfl m_isCrushed_ds ⟨Nat.le_trans (Nat.le_of_ble_eq_true rfl) hRf, Nat.le_trans (Nat.le_of_ble_eq_true rfl) hRl⟩) (g_recv hK hW mO rfl) hK hW hcs rfl hl.1 rfl (Nat.le_of_ble_eq_true rfl) dX3_person_71 ?_
              refine lv_if_eq (tgt := 81) hx hb dX3_person_74 (by decide) (fun c10 => ?_) (fun c10 => ?_)
              · rw [if_pos c10] at hm5
                refine lv_iconst (v := 0) hx hb dX3_person_81 (by decide) ?_
                obtain rfl := so1 hm5
                exact K5 ls (lv_sub hl [] rfl)
              · rw [if_neg c10] at hm5
                refine lv_iconst (v := 1) hx hb dX3_person_77 (by decide) ?_
                refine lv_goto (tgt := 82) hx hb dX3_person_78 (by decide) ?_
                obtain rfl := so1 hm5
                exact K5 ls (lv_sub hl [] rfl)
            · rw [if_pos c8] at hm5
              refine lv_aload_n hx hb dX3_person_61 rfl (lv_at hl 0 rfl) ?_
              refine lv_iload_n hx hb dX3_person_62 rfl (lv_at hl 1 rfl) ?_
              obtain ⟨v11, h11, hm5⟩ := ob1_e hm5
              refine g_vR (ov := some (.int v11)) (D := D) (Sc := mS) (adc := ad) (Ic := I) (Ac := A) (Rc := nR) (Gc := nG) (As := [.int a0]) (rest := []) (b := ad 99) (C := RX3) ⟨hx, hb, hml, hown, hts⟩ (m_loadOf_met l D ad I A a0 v11 h11) (g_cwV 1 hts (lw_V q1409 q1411 qs49 q82 q1412) rfl rfl m_loadOf_ds ⟨Nat.le_trans (Nat.le_of_ble_eq_true rfl) hRf, Nat.le_trans (Nat.le_of_ble_eq_true rfl) hRl⟩) (g_recv hK hW mO rfl) hK hW hcs rfl hl.1 rfl (Nat.le_of_ble_eq_true rfl) dX3_person_63 ?_
              refine lv_goto (tgt := 82) hx hb dX3_person_66 (by decide) ?_
              obtain rfl := so1 hm5
              exact K5 ls (lv_sub hl [] rfl)
          · rw [if_pos c7] at hm5
            refine lv_aload_n hx hb dX3_person_44 rfl (lv_at hl 0 rfl) ?_
            refine g_get (v := .ref (ad 0)) hx hb hts hown hK hW mO in_X3 rfl 0 (by decide) q1212 rfl rfl dX3_person_45 ?_
            refine lv_bipush (v := 20) hx hb dX3_person_48 (by decide) ?_
            refine lv_iload_n hx hb dX3_person_50 rfl (lv_at hl 1 rfl) ?_
            refine lv_iadd hx hb dX3_person_51 ?_
            obtain ⟨v12, hv12, hm5⟩ := ob1_e hm5
            refine g_iald hx hb hK hW mA0 hv12 dX3_person_52 ?_
            refine lv_goto (tgt := 82) hx hb dX3_person_53 (by decide) ?_
            obtain rfl := so1 hm5
            exact K5 ls (lv_sub hl [] rfl)
        · rw [if_pos c6] at hm5
          refine lv_aload_n hx hb dX3_person_27 rfl (lv_at hl 0 rfl) ?_
          refine g_get (v := .ref (ad 0)) hx hb hts hown hK hW mO in_X3 rfl 0 (by decide) q1212 rfl rfl dX3_person_28 ?_
          refine lv_bipush (v := 15) hx hb dX3_person_31 (by decide) ?_
          refine lv_iload_n hx hb dX3_person_33 rfl (lv_at hl 1 rfl) ?_
          refine lv_iadd hx hb dX3_person_34 ?_
          obtain ⟨v13, hv13, hm5⟩ := ob1_e hm5
          refine g_iald hx hb hK hW mA0 hv13 dX3_person_35 ?_
          refine lv_goto (tgt := 82) hx hb dX3_person_36 (by decide) ?_
          obtain rfl := so1 hm5
          exact K5 ls (lv_sub hl [] rfl)
    · rw [if_pos c4] at hf
      refine lv_ldc (v := (-1000001)) hx hb hown (hts _ q1298) dX3_person_20 ?_
      obtain rfl := so1 hf
      exact W.iret hx hb hr (fun t ht _ => ⟨rfl, ht⟩) (fun q hq => by cases hq) dX3_person_22
theorem m_person_ds : yX3_person.cls = RX3 ∧ yX3_person.cls ≠ "java/lang/invoke/MethodHandle" ∧ yX3_person.cls ≠ "java/lang/invoke/VarHandle" ∧ (parseMethodDescriptor yX3_person.desc).map (fun d => d.parameters.length) = some 2 := by decide +kernel
/-! promise -/
def m_promise (I : Nat → Int32) (A : Nat → Nat → Int32) (a0 : Int32) (a1 : Int32) : Option (Int32) :=
  ob1 (m_isPromise I A a0) fun (v1 : Int32) =>
  if v1 = 0 then (some (-1000001)) else (ob1 (m_in a1.toInt64 0 6) fun (v3 : Int32) =>
    if v3 = 0 then (some (-1000001)) else (ob1 (if 6 ≤ a1 then (ob1 (m_poundsOf I A a0) fun (v7 : Int32) =>
          (some v7 : Option (Int32))) else (ob1 (ldO (A 0) 2044 ((25 + (8 * a1)) + a0)) fun (v8 : Int32) =>
          (some v8 : Option (Int32)))) fun (v5 : Int32) =>
      some v5))
set_option maxRecDepth 100000 in
set_option maxHeartbeats 4000000 in
theorem m_promise_met (l : Launch) (D : dd_) (ad : Nat → Nat) (I : Nat → Int32) (A : Nat → Nat → Int32) (a0 : Int32) (a1 : Int32) (r : Int32) (hf : m_promise I A a0 a1 = some r) : Met l yX3_promise (ws_ yX3_promise cX3_promise 3 (some .int)) ({ frames := 3, cells := 0, slots := 0, locals := 62 }) (PcW D mS ad I A nR nG [.ref (ad 99), .int a0, .int a1]) (QcR (some (.int r))) 0 0 (fun _ => False) := by
  refine Met.ofW (cc := cX3_promise) (maxL := 3) (ret := (some .int)) (by decide) rfl ?_
  intro p e s m args below meth c s₁ B hml hv
  obtain ⟨rfl, hK, hW⟩ := hv
  have hx := B.exec
  have hb := B.bytes
  have hr := B.returns
  have hts := atoms_spec (ws := (ws_ yX3_promise cX3_promise 3 (some .int))) B.pre
  have hts : ∀ w ∈ lw_all, w.before _ s = true := fun w h => hts w (List.mem_cons_of_mem _ h)
  have hown : s.vm.findClass RX3 = some m.cls := findClass_of_methodNamed B.named
  have hlocks := B.notSynchronized
  have hRf : 3 ≤ (headSpec (ws_ yX3_promise cX3_promise 3 (some .int)) ({ frames := 3, cells := 0, slots := 0, locals := 62 })).room.frames := Nat.le_refl _
  have hRl : 62 ≤ (headSpec (ws_ yX3_promise cX3_promise 3 (some .int)) ({ frames := 3, cells := 0, slots := 0, locals := 62 })).room.locals := Nat.le_refl _
  have hcs : 0 ≤ (headSpec (ws_ yX3_promise cX3_promise 3 (some .int)) ({ frames := 3, cells := 0, slots := 0, locals := 62 })).room.cells ∧ 0 ≤ (headSpec (ws_ yX3_promise cX3_promise 3 (some .int)) ({ frames := 3, cells := 0, slots := 0, locals := 62 })).room.slots := ⟨Nat.zero_le _, Nat.zero_le _⟩
  have hl := lv_entry ([.ref (ad 99), .int a0, .int a1]) (n := 3) (Nat.le_of_ble_eq_true rfl)
  rw [lg_entry_eq]
  generalize (lg_sl ([.ref (ad 99), .int a0, .int a1]) ++ List.replicate (3 - (lg_sl ([.ref (ad 99), .int a0, .int a1])).length) Slot.unset).toArray = ls at hl ⊢
  have hl : lv_has ls 3 [(0, .ref (ad 99)), (1, .int a0), (2, .int a1)] := hl
  have hf : (ob1 (m_isPromise I A a0) fun (v1 : Int32) =>
    if v1 = 0 then (some (-1000001)) else (ob1 (m_in a1.toInt64 0 6) fun (v3 : Int32) =>
      if v3 = 0 then (some (-1000001)) else (ob1 (if 6 ≤ a1 then (ob1 (m_poundsOf I A a0) fun (v7 : Int32) =>
            (some v7 : Option (Int32))) else (ob1 (ldO (A 0) 2044 ((25 + (8 * a1)) + a0)) fun (v8 : Int32) =>
            (some v8 : Option (Int32)))) fun (v5 : Int32) =>
        some v5))) = some r := hf
  refine lv_aload_n hx hb dX3_promise_0 rfl (lv_at hl 0 rfl) ?_
  refine lv_iload_n hx hb dX3_promise_1 rfl (lv_at hl 1 rfl) ?_
  obtain ⟨v1, h1, hf⟩ := ob1_e hf
  refine g_vR (ov := some (.int v1)) (D := D) (Sc := mS) (adc := ad) (Ic := I) (Ac := A) (Rc := nR) (Gc := nG) (As := [.int a0]) (rest := []) (b := ad 99) (C := RX3) ⟨hx, hb, hml, hown, hts⟩ (m_isPromise_met l D ad I A a0 v1 h1) (g_cwV 1 hts (lw_V q1434 q1436 qs52 q82 q1437) rfl rfl m_isPromise_ds ⟨Nat.le_trans (Nat.le_of_ble_eq_true rfl) hRf, Nat.le_trans (Nat.le_of_ble_eq_true rfl) hRl⟩) (g_recv hK hW mO rfl) hK hW hcs rfl hl.1 rfl (Nat.le_of_ble_eq_true rfl) dX3_promise_2 ?_
  refine lv_if_eq (tgt := 20) hx hb dX3_promise_5 (by decide) (fun c2 => ?_) (fun c2 => ?_)
  · rw [if_pos c2] at hf
    refine lv_ldc (v := (-1000001)) hx hb hown (hts _ q1298) dX3_promise_20 ?_
    obtain rfl := so1 hf
    exact W.iret hx hb hr (fun t ht _ => ⟨rfl, ht⟩) (fun q hq => by cases hq) dX3_promise_22
  · rw [if_neg c2] at hf
    refine lv_iload_n hx hb dX3_promise_8 rfl (lv_at hl 2 rfl) ?_
    refine lv_i2l (v := a1.toInt64) hx hb dX3_promise_9 rfl ?_
    refine lv_lconst (v := 0) hx hb dX3_promise_10 (by decide) ?_
    refine lv_ldc2 (v := 6) hx hb hown (hts _ q1468) dX3_promise_11 ?_
    obtain ⟨v3, h3, hf⟩ := ob1_e hf
    refine g_sR (ov := some (.int v3)) (D := D) (Sc := nS) (adc := ad) (Ic := (fun _ => 0)) (Ac := (fun _ _ => 0)) (Rc := nR) (Gc := nG) (As := [.long a1.toInt64, .long 0, .long 6]) (rest := []) ⟨hx, hb, hml, hown, hts⟩ (m_in_met l D ad a1.toInt64 0 6 v3 h3) (va_cwS 3 hts (lw_S q1294 q1295 q82 q1296) rfl rfl rfl m_in_ds.2 ⟨Nat.le_trans (Nat.le_of_ble_eq_true rfl) hRf, Nat.le_trans (Nat.le_of_ble_eq_true rfl) hRl⟩) hK WH_nil hcs rfl hl.1 rfl (Nat.le_of_ble_eq_true rfl) dX3_promise_14 ?_
    refine lv_if_ne (tgt := 23) hx hb dX3_promise_17 (by decide) (fun c4 => ?_) (fun c4 => ?_)
    · rw [if_neg c4] at hf
      refine lv_iload_n hx hb dX3_promise_23 rfl (lv_at hl 2 rfl) ?_
      refine lv_bipush (v := 6) hx hb dX3_promise_24 (by decide) ?_
      obtain ⟨v5, hm5, hf⟩ := ob1_e hf
      refine w_cutL (nL := 3) (L := []) (pcj := 51) (st := [.int v5]) (fun ls hl => ?_) (fun K5 => ?_)
      · obtain rfl := so1 hf
        exact W.iret hx hb hr (fun t ht _ => ⟨rfl, ht⟩) (fun q hq => by cases hq) dX3_promise_51
      · refine lv_icmp_ge (tgt := 46) hx hb dX3_promise_26 (by decide) (fun c6 => ?_) (fun c6 => ?_)
        · rw [if_pos c6] at hm5
          refine lv_aload_n hx hb dX3_promise_46 rfl (lv_at hl 0 rfl) ?_
          refine lv_iload_n hx hb dX3_promise_47 rfl (lv_at hl 1 rfl) ?_
          obtain ⟨v7, h7, hm5⟩ := ob1_e hm5
          refine g_vR (ov := some (.int v7)) (D := D) (Sc := mS) (adc := ad) (Ic := I) (Ac := A) (Rc := nR) (Gc := nG) (As := [.int a0]) (rest := []) (b := ad 99) (C := RX3) ⟨hx, hb, hml, hown, hts⟩ (m_poundsOf_met l D ad I A a0 v7 h7) (g_cwV 1 hts (lw_V q1413 q1415 qs50 q82 q1416) rfl rfl m_poundsOf_ds ⟨Nat.le_trans (Nat.le_of_ble_eq_true rfl) hRf, Nat.le_trans (Nat.le_of_ble_eq_true rfl) hRl⟩) (g_recv hK hW mO rfl) hK hW hcs rfl hl.1 rfl (Nat.le_of_ble_eq_true rfl) dX3_promise_48 ?_
          obtain rfl := so1 hm5
          exact K5 ls (lv_sub hl [] rfl)
        · rw [if_neg c6] at hm5
          refine lv_aload_n hx hb dX3_promise_29 rfl (lv_at hl 0 rfl) ?_
          refine g_get (v := .ref (ad 0)) hx hb hts hown hK hW mO in_X3 rfl 0 (by decide) q1212 rfl rfl dX3_promise_30 ?_
          refine lv_bipush (v := 25) hx hb dX3_promise_33 (by decide) ?_
          refine lv_bipush (v := 8) hx hb dX3_promise_35 (by decide) ?_
          refine lv_iload_n hx hb dX3_promise_37 rfl (lv_at hl 2 rfl) ?_
          refine lv_imul hx hb dX3_promise_38 ?_
          refine lv_iadd hx hb dX3_promise_39 ?_
          refine lv_iload_n hx hb dX3_promise_40 rfl (lv_at hl 1 rfl) ?_
          refine lv_iadd hx hb dX3_promise_41 ?_
          obtain ⟨v8, hv8, hm5⟩ := ob1_e hm5
          refine g_iald hx hb hK hW mA0 hv8 dX3_promise_42 ?_
          refine lv_goto (tgt := 51) hx hb dX3_promise_43 (by decide) ?_
          obtain rfl := so1 hm5
          exact K5 ls (lv_sub hl [] rfl)
    · rw [if_pos c4] at hf
      refine lv_ldc (v := (-1000001)) hx hb hown (hts _ q1298) dX3_promise_20 ?_
      obtain rfl := so1 hf
      exact W.iret hx hb hr (fun t ht _ => ⟨rfl, ht⟩) (fun q hq => by cases hq) dX3_promise_22
theorem m_promise_ds : yX3_promise.cls = RX3 ∧ yX3_promise.cls ≠ "java/lang/invoke/MethodHandle" ∧ yX3_promise.cls ≠ "java/lang/invoke/VarHandle" ∧ (parseMethodDescriptor yX3_promise.desc).map (fun d => d.parameters.length) = some 2 := by decide +kernel
/-! height -/
def m_height (I : Nat → Int32) (A : Nat → Nat → Int32) (a0 : Int32) : Option (Int32) :=
  ob1 (m_isNone I A ) fun (v1 : Int32) =>
  if v1 = 0 then (ob1 (m_in a0.toInt64 0 5) fun (v3 : Int32) =>
    ob1 (if v3 = 0 then ((some (-1000001) : Option (Int32))) else (ob1 (ldO (A 0) 2044 (0 + a0)) fun (v6 : Int32) =>
        (some v6 : Option (Int32)))) fun (v4 : Int32) =>
    some v4) else (some (-1000002))
set_option maxRecDepth 100000 in
set_option maxHeartbeats 4000000 in
theorem m_height_met (l : Launch) (D : dd_) (ad : Nat → Nat) (I : Nat → Int32) (A : Nat → Nat → Int32) (a0 : Int32) (r : Int32) (hf : m_height I A a0 = some r) : Met l yX3_height (ws_ yX3_height cX3_height 2 (some .int)) ({ frames := 2, cells := 0, slots := 0, locals := 41 }) (PcW D mS ad I A nR nG [.ref (ad 99), .int a0]) (QcR (some (.int r))) 0 0 (fun _ => False) := by
  refine Met.ofW (cc := cX3_height) (maxL := 2) (ret := (some .int)) (by decide) rfl ?_
  intro p e s m args below meth c s₁ B hml hv
  obtain ⟨rfl, hK, hW⟩ := hv
  have hx := B.exec
  have hb := B.bytes
  have hr := B.returns
  have hts := atoms_spec (ws := (ws_ yX3_height cX3_height 2 (some .int))) B.pre
  have hts : ∀ w ∈ lw_all, w.before _ s = true := fun w h => hts w (List.mem_cons_of_mem _ h)
  have hown : s.vm.findClass RX3 = some m.cls := findClass_of_methodNamed B.named
  have hlocks := B.notSynchronized
  have hRf : 2 ≤ (headSpec (ws_ yX3_height cX3_height 2 (some .int)) ({ frames := 2, cells := 0, slots := 0, locals := 41 })).room.frames := Nat.le_refl _
  have hRl : 41 ≤ (headSpec (ws_ yX3_height cX3_height 2 (some .int)) ({ frames := 2, cells := 0, slots := 0, locals := 41 })).room.locals := Nat.le_refl _
  have hcs : 0 ≤ (headSpec (ws_ yX3_height cX3_height 2 (some .int)) ({ frames := 2, cells := 0, slots := 0, locals := 41 })).room.cells ∧ 0 ≤ (headSpec (ws_ yX3_height cX3_height 2 (some .int)) ({ frames := 2, cells := 0, slots := 0, locals := 41 })).room.slots := ⟨Nat.zero_le _, Nat.zero_le _⟩
  have hl := lv_entry ([.ref (ad 99), .int a0]) (n := 2) (Nat.le_of_ble_eq_true rfl)
  rw [lg_entry_eq]
  generalize (lg_sl ([.ref (ad 99), .int a0]) ++ List.replicate (2 - (lg_sl ([.ref (ad 99), .int a0])).length) Slot.unset).toArray = ls at hl ⊢
  have hl : lv_has ls 2 [(0, .ref (ad 99)), (1, .int a0)] := hl
  have hf : (ob1 (m_isNone I A ) fun (v1 : Int32) =>
    if v1 = 0 then (ob1 (m_in a0.toInt64 0 5) fun (v3 : Int32) =>
      ob1 (if v3 = 0 then ((some (-1000001) : Option (Int32))) else (ob1 (ldO (A 0) 2044 (0 + a0)) fun (v6 : Int32) =>
          (some v6 : Option (Int32)))) fun (v4 : Int32) =>
      some v4) else (some (-1000002))) = some r := hf
  refine lv_aload_n hx hb dX3_height_0 rfl (lv_at hl 0 rfl) ?_
  obtain ⟨v1, h1, hf⟩ := ob1_e hf
  refine g_vR (ov := some (.int v1)) (D := D) (Sc := mS) (adc := ad) (Ic := I) (Ac := A) (Rc := nR) (Gc := nG) (As := []) (rest := []) (b := ad 99) (C := RX3) ⟨hx, hb, hml, hown, hts⟩ (m_isNone_met l D ad I A  v1 h1) (g_cwV 0 hts (lw_V q1446 q1448 qs53 q82 q1449) rfl rfl m_isNone_ds ⟨Nat.le_trans (Nat.le_of_ble_eq_true rfl) hRf, Nat.le_trans (Nat.le_of_ble_eq_true rfl) hRl⟩) (g_recv hK hW mO rfl) hK hW hcs rfl hl.1 rfl (Nat.le_of_ble_eq_true rfl) dX3_height_1 ?_
  refine lv_if_eq (tgt := 10) hx hb dX3_height_4 (by decide) (fun c2 => ?_) (fun c2 => ?_)
  · rw [if_pos c2] at hf
    refine lv_iload_n hx hb dX3_height_10 rfl (lv_at hl 1 rfl) ?_
    refine lv_i2l (v := a0.toInt64) hx hb dX3_height_11 rfl ?_
    refine lv_lconst (v := 0) hx hb dX3_height_12 (by decide) ?_
    refine lv_ldc2 (v := 5) hx hb hown (hts _ q1404) dX3_height_13 ?_
    obtain ⟨v3, h3, hf⟩ := ob1_e hf
    refine g_sR (ov := some (.int v3)) (D := D) (Sc := nS) (adc := ad) (Ic := (fun _ => 0)) (Ac := (fun _ _ => 0)) (Rc := nR) (Gc := nG) (As := [.long a0.toInt64, .long 0, .long 5]) (rest := []) ⟨hx, hb, hml, hown, hts⟩ (m_in_met l D ad a0.toInt64 0 5 v3 h3) (va_cwS 3 hts (lw_S q1294 q1295 q82 q1296) rfl rfl rfl m_in_ds.2 ⟨Nat.le_trans (Nat.le_of_ble_eq_true rfl) hRf, Nat.le_trans (Nat.le_of_ble_eq_true rfl) hRl⟩) hK WH_nil hcs rfl hl.1 rfl (Nat.le_of_ble_eq_true rfl) dX3_height_16 ?_
    obtain ⟨v4, hm4, hf⟩ := ob1_e hf
    refine w_cutL (nL := 2) (L := []) (pcj := 35) (st := [.int v4]) (fun ls hl => ?_) (fun K4 => ?_)
    · obtain rfl := so1 hf
      exact W.iret hx hb hr (fun t ht _ => ⟨rfl, ht⟩) (fun q hq => by cases hq) dX3_height_35
    · refine lv_if_eq (tgt := 33) hx hb dX3_height_19 (by decide) (fun c5 => ?_) (fun c5 => ?_)
      · rw [if_pos c5] at hm4
        refine lv_ldc (v := (-1000001)) hx hb hown (hts _ q1298) dX3_height_33 ?_
        obtain rfl := so1 hm4
        exact K4 ls (lv_sub hl [] rfl)
      · rw [if_neg c5] at hm4
        refine lv_aload_n hx hb dX3_height_22 rfl (lv_at hl 0 rfl) ?_
        refine g_get (v := .ref (ad 0)) hx hb hts hown hK hW mO in_X3 rfl 0 (by decide) q1212 rfl rfl dX3_height_23 ?_
        refine lv_iconst (v := 0) hx hb dX3_height_26 (by decide) ?_
        refine lv_iload_n hx hb dX3_height_27 rfl (lv_at hl 1 rfl) ?_
        refine lv_iadd hx hb dX3_height_28 ?_
        obtain ⟨v6, hv6, hm4⟩ := ob1_e hm4
        refine g_iald hx hb hK hW mA0 hv6 dX3_height_29 ?_
        refine lv_goto (tgt := 35) hx hb dX3_height_30 (by decide) ?_
        obtain rfl := so1 hm4
        exact K4 ls (lv_sub hl [] rfl)
  · rw [if_neg c2] at hf
    refine lv_ldc (v := (-1000002)) hx hb hown (hts _ q1391) dX3_height_7 ?_
    obtain rfl := so1 hf
    exact W.iret hx hb hr (fun t ht _ => ⟨rfl, ht⟩) (fun q hq => by cases hq) dX3_height_9
theorem m_height_ds : yX3_height.cls = RX3 ∧ yX3_height.cls ≠ "java/lang/invoke/MethodHandle" ∧ yX3_height.cls ≠ "java/lang/invoke/VarHandle" ∧ (parseMethodDescriptor yX3_height.desc).map (fun d => d.parameters.length) = some 1 := by decide +kernel
/-! gets -/
def m_gets_L67 (I : Nat → Int32) (A : Nat → Nat → Int32) (u1 : Int32) (u2 : Int32) (u3 : Int32) (u4 : Int32) : Nat → Int32 → Int32 → Option (Int32 × Int32)
  | 0, _, _ => none
  | n + 1, x5, x6 =>
    if x6 = u2 then (some (x5, x6)) else (ob1 (m_wants I A u1 x6 (x6 + u4)) fun (v2 : Int32) =>
      ob1 (if v2 ≤ x5 then ((some x5 : Option (Int32))) else ((some v2 : Option (Int32)))) fun (v3 : Int32) =>
      m_gets_L67 I A u1 u2 u3 u4 n v3 (x6 + u4))
set_option maxRecDepth 100000 in
set_option maxHeartbeats 4000000 in
theorem m_gets_L67_w {p : Program} {l : Launch} {e : Env} {R0 : Room} {s : State} {m : MethodId} {args : Array Value} {below : List Frame} {meth : Method} {c : Code} {cells slots : Nat} {Q : State → Prop} {D : dd_} {ad : Nat → Nat} (hx : p.tables.exec = Jvm.exec) (hb : c.code = cX3_gets) (hml : c.maxLocals = 8) (hown : s.vm.findClass RX3 = some m.cls) (hts : ∀ w ∈ lw_all, w.before args s = true) (hK : Kx D s) (hRf : 5 ≤ R0.frames) (hRl : 106 ≤ R0.locals) (hcs : cells ≤ R0.cells ∧ slots ≤ R0.slots) {H : Heap} {locs : List Loc} (I : Nat → Int32) (A : Nat → Nat → Int32) (u1 : Int32) (u2 : Int32) (u3 : Int32) (u4 : Int32) (hW : WH D mS ad I A nR nG H) (y5 : Int32) (y6 : Int32) (KX : ∀ (ls : Array Slot), lv_has ls 8 [(0, .ref (ad 99)), (1, .int u1), (3, .int u3), (5, .int y5)] → W p l e R0 s m args below meth c H locs cells slots Q (F0 m 113 ls [])) : ∀ (n : Nat) (x5 : Int32) (x6 : Int32) (ls : Array Slot), m_gets_L67 I A u1 u2 u3 u4 n x5 x6 = some (y5, y6) → lv_has ls 8 [(0, .ref (ad 99)), (1, .int u1), (2, .int u2), (3, .int u3), (4, .int u4), (5, .int x5), (6, .int x6)] → W p l e R0 s m args below meth c H locs cells slots Q (F0 m 67 ls []) := by
  intro n
  induction n with
  | zero =>
    intro x5 x6 ls hf
    exact nomatch (show (none : Option (Int32 × Int32)) = some (y5, y6) from hf)
  | succ n ih =>
    intro x5 x6 ls hf hl
    have hf : (if x6 = u2 then (some (x5, x6)) else (ob1 (m_wants I A u1 x6 (x6 + u4)) fun (v2 : Int32) =>
          ob1 (if v2 ≤ x5 then ((some x5 : Option (Int32))) else ((some v2 : Option (Int32)))) fun (v3 : Int32) =>
          m_gets_L67 I A u1 u2 u3 u4 n v3 (x6 + u4))) = some (y5, y6) := hf
    refine lv_iload hx hb dX3_gets_67 (lv_at hl 6 rfl) ?_
    refine lv_iload_n hx hb dX3_gets_69 rfl (lv_at hl 2 rfl) ?_
    refine lv_icmp_eq (tgt := 113) hx hb dX3_gets_70 (by decide) (fun c1 => ?_) (fun c1 => ?_)
    · rw [if_pos c1] at hf
      obtain ⟨rfl, rfl⟩ := so2 hf
      exact KX ls (lv_sub hl [0, 1, 3, 5] rfl)
    · rw [if_neg c1] at hf
      refine lv_aload_n hx hb dX3_gets_73 rfl (lv_at hl 0 rfl) ?_
      refine lv_iload_n hx hb dX3_gets_74 rfl (lv_at hl 1 rfl) ?_
      refine lv_iload hx hb dX3_gets_75 (lv_at hl 6 rfl) ?_
      refine lv_iload hx hb dX3_gets_77 (lv_at hl 6 rfl) ?_
      refine lv_iload hx hb dX3_gets_79 (lv_at hl 4 rfl) ?_
      refine lv_iadd hx hb dX3_gets_81 ?_
      obtain ⟨v2, h2, hf⟩ := ob1_e hf
      refine g_vR (ov := some (.int v2)) (D := D) (Sc := mS) (adc := ad) (Ic := I) (Ac := A) (Rc := nR) (Gc := nG) (As := [.int u1, .int x6, .int (x6 + u4)]) (rest := []) (b := ad 99) (C := RX3) ⟨hx, hb, hml, hown, hts⟩ (m_wants_met l D ad I A u1 x6 (x6 + u4) v2 h2) (g_cwV 3 hts (lw_V q1405 q1407 qs48 q82 q1408) rfl rfl m_wants_ds ⟨Nat.le_trans (Nat.le_of_ble_eq_true rfl) hRf, Nat.le_trans (Nat.le_of_ble_eq_true rfl) hRl⟩) (g_recv hK hW mO rfl) hK hW hcs rfl hl.1 rfl (Nat.le_of_ble_eq_true rfl) dX3_gets_82 ?_
      refine lv_istore (lv' := [(7, .int v2), (0, .ref (ad 99)), (1, .int u1), (2, .int u2), (3, .int u3), (4, .int u4), (5, .int x5), (6, .int x6)]) hx hb dX3_gets_85 hl (by decide) rfl (fun ls hl => ?_)
      refine lv_iload hx hb dX3_gets_87 (lv_at hl 0 rfl) ?_
      refine lv_iload hx hb dX3_gets_89 (lv_at hl 6 rfl) ?_
      obtain ⟨v3, hm3, hf⟩ := ob1_e hf
      refine w_cutL (nL := 8) (L := [(0, .ref (ad 99)), (1, .int u1), (2, .int u2), (3, .int u3), (4, .int u4), (6, .int x6)]) (pcj := 101) (st := [.int v3]) (fun ls hl => ?_) (fun K3 => ?_)
      · refine lv_istore (lv' := [(5, .int v3), (0, .ref (ad 99)), (1, .int u1), (2, .int u2), (3, .int u3), (4, .int u4), (6, .int x6)]) hx hb dX3_gets_101 hl (by decide) rfl (fun ls hl => ?_)
        refine lv_iload hx hb dX3_gets_103 (lv_at hl 6 rfl) ?_
        refine lv_iload hx hb dX3_gets_105 (lv_at hl 5 rfl) ?_
        refine lv_iadd hx hb dX3_gets_107 ?_
        refine lv_istore (lv' := [(6, .int (x6 + u4)), (5, .int v3), (0, .ref (ad 99)), (1, .int u1), (2, .int u2), (3, .int u3), (4, .int u4)]) hx hb dX3_gets_108 hl (by decide) rfl (fun ls hl => ?_)
        refine lv_goto (tgt := 67) hx hb dX3_gets_110 (by decide) ?_
        exact ih v3 (x6 + u4) ls hf (lv_sub hl [2, 3, 4, 5, 6, 1, 0] rfl)
      · refine lv_icmp_le (tgt := 99) hx hb dX3_gets_91 (by decide) (fun c4 => ?_) (fun c4 => ?_)
        · rw [if_pos c4] at hm3
          refine lv_iload hx hb dX3_gets_99 (lv_at hl 6 rfl) ?_
          obtain rfl := so1 hm3
          exact K3 ls (lv_sub hl [1, 2, 3, 4, 5, 7] rfl)
        · rw [if_neg c4] at hm3
          refine lv_iload hx hb dX3_gets_94 (lv_at hl 0 rfl) ?_
          refine lv_goto (tgt := 101) hx hb dX3_gets_96 (by decide) ?_
          obtain rfl := so1 hm3
          exact K3 ls (lv_sub hl [1, 2, 3, 4, 5, 7] rfl)
def m_gets (I : Nat → Int32) (A : Nat → Nat → Int32) (a0 : Int32) (a1 : Int32) (a2 : Int32) : Option (Int32) :=
  ob1 (m_isPerson I A a0) fun (v1 : Int32) =>
  if v1 = 0 then (some (-1000001)) else (ob1 (m_in a1.toInt64 0 5) fun (v3 : Int32) =>
    if v3 = 0 then (some (-1000001)) else (ob1 (m_in a2.toInt64 0 1) fun (v5 : Int32) =>
      if v5 = 0 then (some (-1000001)) else (ob1 (ldO (A 0) 2044 (20 + a0)) fun (v7 : Int32) =>
        ob1 (if a1 ≤ v7 then ((some (-1) : Option (Int32))) else ((some 1 : Option (Int32)))) fun (v8 : Int32) =>
        ob1 (ldO (A 0) 2044 (20 + a0)) fun (v10 : Int32) =>
        ob2 (m_gets_L67 I A a0 a1 a2 v8 NF 0 v10) fun (v11 : Int32) (v12 : Int32) =>
        ob1 (ldO (A 0) 2044 (15 + a0)) fun (v13 : Int32) =>
        ob1 (if v11 ≤ v13 then ((some 0 : Option (Int32))) else (ob1 (ldO (A 0) 2044 (15 + a0)) fun (v16 : Int32) =>
            (some (v11 - v16) : Option (Int32)))) fun (v14 : Int32) =>
        ob1 (if a2 = 1 then ((some v14 : Option (Int32))) else (if v14 = 0 then ((some 1 : Option (Int32))) else ((some 0 : Option (Int32))))) fun (v17 : Int32) =>
        some v17)))
set_option maxRecDepth 100000 in
set_option maxHeartbeats 4000000 in
theorem m_gets_met (l : Launch) (D : dd_) (ad : Nat → Nat) (I : Nat → Int32) (A : Nat → Nat → Int32) (a0 : Int32) (a1 : Int32) (a2 : Int32) (r : Int32) (hf : m_gets I A a0 a1 a2 = some r) : Met l yX3_gets (ws_ yX3_gets cX3_gets 8 (some .int)) ({ frames := 5, cells := 0, slots := 0, locals := 106 }) (PcW D mS ad I A nR nG [.ref (ad 99), .int a0, .int a1, .int a2]) (QcR (some (.int r))) 0 0 (fun _ => False) := by
  refine Met.ofW (cc := cX3_gets) (maxL := 8) (ret := (some .int)) (by decide) rfl ?_
  intro p e s m args below meth c s₁ B hml hv
  obtain ⟨rfl, hK, hW⟩ := hv
  have hx := B.exec
  have hb := B.bytes
  have hr := B.returns
  have hts := atoms_spec (ws := (ws_ yX3_gets cX3_gets 8 (some .int))) B.pre
  have hts : ∀ w ∈ lw_all, w.before _ s = true := fun w h => hts w (List.mem_cons_of_mem _ h)
  have hown : s.vm.findClass RX3 = some m.cls := findClass_of_methodNamed B.named
  have hlocks := B.notSynchronized
  have hRf : 5 ≤ (headSpec (ws_ yX3_gets cX3_gets 8 (some .int)) ({ frames := 5, cells := 0, slots := 0, locals := 106 })).room.frames := Nat.le_refl _
  have hRl : 106 ≤ (headSpec (ws_ yX3_gets cX3_gets 8 (some .int)) ({ frames := 5, cells := 0, slots := 0, locals := 106 })).room.locals := Nat.le_refl _
  have hcs : 0 ≤ (headSpec (ws_ yX3_gets cX3_gets 8 (some .int)) ({ frames := 5, cells := 0, slots := 0, locals := 106 })).room.cells ∧ 0 ≤ (headSpec (ws_ yX3_gets cX3_gets 8 (some .int)) ({ frames := 5, cells := 0, slots := 0, locals := 106 })).room.slots := ⟨Nat.zero_le _, Nat.zero_le _⟩
  have hl := lv_entry ([.ref (ad 99), .int a0, .int a1, .int a2]) (n := 8) (Nat.le_of_ble_eq_true rfl)
  rw [lg_entry_eq]
  generalize (lg_sl ([.ref (ad 99), .int a0, .int a1, .int a2]) ++ List.replicate (8 - (lg_sl ([.ref (ad 99), .int a0, .int a1, .int a2])).length) Slot.unset).toArray = ls at hl ⊢
  have hl : lv_has ls 8 [(0, .ref (ad 99)), (1, .int a0), (2, .int a1), (3, .int a2)] := hl
  have hf : (ob1 (m_isPerson I A a0) fun (v1 : Int32) =>
    if v1 = 0 then (some (-1000001)) else (ob1 (m_in a1.toInt64 0 5) fun (v3 : Int32) =>
      if v3 = 0 then (some (-1000001)) else (ob1 (m_in a2.toInt64 0 1) fun (v5 : Int32) =>
        if v5 = 0 then (some (-1000001)) else (ob1 (ldO (A 0) 2044 (20 + a0)) fun (v7 : Int32) =>
          ob1 (if a1 ≤ v7 then ((some (-1) : Option (Int32))) else ((some 1 : Option (Int32)))) fun (v8 : Int32) =>
          ob1 (ldO (A 0) 2044 (20 + a0)) fun (v10 : Int32) =>
          ob2 (m_gets_L67 I A a0 a1 a2 v8 NF 0 v10) fun (v11 : Int32) (v12 : Int32) =>
          ob1 (ldO (A 0) 2044 (15 + a0)) fun (v13 : Int32) =>
          ob1 (if v11 ≤ v13 then ((some 0 : Option (Int32))) else (ob1 (ldO (A 0) 2044 (15 + a0)) fun (v16 : Int32) =>
              (some (v11 - v16) : Option (Int32)))) fun (v14 : Int32) =>
          ob1 (if a2 = 1 then ((some v14 : Option (Int32))) else (if v14 = 0 then ((some 1 : Option (Int32))) else ((some 0 : Option (Int32))))) fun (v17 : Int32) =>
          some v17)))) = some r := hf
  refine lv_aload_n hx hb dX3_gets_0 rfl (lv_at hl 0 rfl) ?_
  refine lv_iload_n hx hb dX3_gets_1 rfl (lv_at hl 1 rfl) ?_
  obtain ⟨v1, h1, hf⟩ := ob1_e hf
  refine g_vR (ov := some (.int v1)) (D := D) (Sc := mS) (adc := ad) (Ic := I) (Ac := A) (Rc := nR) (Gc := nG) (As := [.int a0]) (rest := []) (b := ad 99) (C := RX3) ⟨hx, hb, hml, hown, hts⟩ (m_isPerson_met l D ad I A a0 v1 h1) (g_cwV 1 hts (lw_V q1396 q1398 qs46 q82 q1399) rfl rfl m_isPerson_ds ⟨Nat.le_trans (Nat.le_of_ble_eq_true rfl) hRf, Nat.le_trans (Nat.le_of_ble_eq_true rfl) hRl⟩) (g_recv hK hW mO rfl) hK hW hcs rfl hl.1 rfl (Nat.le_of_ble_eq_true rfl) dX3_gets_2 ?_
  refine lv_if_eq (tgt := 30) hx hb dX3_gets_5 (by decide) (fun c2 => ?_) (fun c2 => ?_)
  · rw [if_pos c2] at hf
    refine lv_ldc (v := (-1000001)) hx hb hown (hts _ q1298) dX3_gets_30 ?_
    obtain rfl := so1 hf
    exact W.iret hx hb hr (fun t ht _ => ⟨rfl, ht⟩) (fun q hq => by cases hq) dX3_gets_32
  · rw [if_neg c2] at hf
    refine lv_iload_n hx hb dX3_gets_8 rfl (lv_at hl 2 rfl) ?_
    refine lv_i2l (v := a1.toInt64) hx hb dX3_gets_9 rfl ?_
    refine lv_lconst (v := 0) hx hb dX3_gets_10 (by decide) ?_
    refine lv_ldc2 (v := 5) hx hb hown (hts _ q1404) dX3_gets_11 ?_
    obtain ⟨v3, h3, hf⟩ := ob1_e hf
    refine g_sR (ov := some (.int v3)) (D := D) (Sc := nS) (adc := ad) (Ic := (fun _ => 0)) (Ac := (fun _ _ => 0)) (Rc := nR) (Gc := nG) (As := [.long a1.toInt64, .long 0, .long 5]) (rest := []) ⟨hx, hb, hml, hown, hts⟩ (m_in_met l D ad a1.toInt64 0 5 v3 h3) (va_cwS 3 hts (lw_S q1294 q1295 q82 q1296) rfl rfl rfl m_in_ds.2 ⟨Nat.le_trans (Nat.le_of_ble_eq_true rfl) hRf, Nat.le_trans (Nat.le_of_ble_eq_true rfl) hRl⟩) hK WH_nil hcs rfl hl.1 rfl (Nat.le_of_ble_eq_true rfl) dX3_gets_14 ?_
    refine lv_if_eq (tgt := 30) hx hb dX3_gets_17 (by decide) (fun c4 => ?_) (fun c4 => ?_)
    · rw [if_pos c4] at hf
      refine lv_ldc (v := (-1000001)) hx hb hown (hts _ q1298) dX3_gets_30 ?_
      obtain rfl := so1 hf
      exact W.iret hx hb hr (fun t ht _ => ⟨rfl, ht⟩) (fun q hq => by cases hq) dX3_gets_32
    · rw [if_neg c4] at hf
      refine lv_iload_n hx hb dX3_gets_20 rfl (lv_at hl 3 rfl) ?_
      refine lv_i2l (v := a2.toInt64) hx hb dX3_gets_21 rfl ?_
      refine lv_lconst (v := 0) hx hb dX3_gets_22 (by decide) ?_
      refine lv_lconst (v := 1) hx hb dX3_gets_23 (by decide) ?_
      obtain ⟨v5, h5, hf⟩ := ob1_e hf
      refine g_sR (ov := some (.int v5)) (D := D) (Sc := nS) (adc := ad) (Ic := (fun _ => 0)) (Ac := (fun _ _ => 0)) (Rc := nR) (Gc := nG) (As := [.long a2.toInt64, .long 0, .long 1]) (rest := []) ⟨hx, hb, hml, hown, hts⟩ (m_in_met l D ad a2.toInt64 0 1 v5 h5) (va_cwS 3 hts (lw_S q1294 q1295 q82 q1296) rfl rfl rfl m_in_ds.2 ⟨Nat.le_trans (Nat.le_of_ble_eq_true rfl) hRf, Nat.le_trans (Nat.le_of_ble_eq_true rfl) hRl⟩) hK WH_nil hcs rfl hl.1 rfl (Nat.le_of_ble_eq_true rfl) dX3_gets_24 ?_
      refine lv_if_ne (tgt := 33) hx hb dX3_gets_27 (by decide) (fun c6 => ?_) (fun c6 => ?_)
      · rw [if_neg c6] at hf
        refine lv_iload_n hx hb dX3_gets_33 rfl (lv_at hl 2 rfl) ?_
        refine lv_aload_n hx hb dX3_gets_34 rfl (lv_at hl 0 rfl) ?_
        refine g_get (v := .ref (ad 0)) hx hb hts hown hK hW mO in_X3 rfl 0 (by decide) q1212 rfl rfl dX3_gets_35 ?_
        refine lv_bipush (v := 20) hx hb dX3_gets_38 (by decide) ?_
        refine lv_iload_n hx hb dX3_gets_40 rfl (lv_at hl 1 rfl) ?_
        refine lv_iadd hx hb dX3_gets_41 ?_
        obtain ⟨v7, hv7, hf⟩ := ob1_e hf
        refine g_iald hx hb hK hW mA0 hv7 dX3_gets_42 ?_
        obtain ⟨v8, hm8, hf⟩ := ob1_e hf
        refine w_cutL (nL := 8) (L := [(0, .ref (ad 99)), (1, .int a0), (2, .int a1), (3, .int a2)]) (pcj := 51) (st := [.int v8]) (fun ls hl => ?_) (fun K8 => ?_)
        · refine lv_istore (lv' := [(4, .int v8), (0, .ref (ad 99)), (1, .int a0), (2, .int a1), (3, .int a2)]) hx hb dX3_gets_51 hl (by decide) rfl (fun ls hl => ?_)
          refine lv_iconst (v := 0) hx hb dX3_gets_53 (by decide) ?_
          refine lv_istore (lv' := [(5, .int 0), (4, .int v8), (0, .ref (ad 99)), (1, .int a0), (2, .int a1), (3, .int a2)]) hx hb dX3_gets_54 hl (by decide) rfl (fun ls hl => ?_)
          refine lv_aload_n hx hb dX3_gets_56 rfl (lv_at hl 2 rfl) ?_
          refine g_get (v := .ref (ad 0)) hx hb hts hown hK hW mO in_X3 rfl 0 (by decide) q1212 rfl rfl dX3_gets_57 ?_
          refine lv_bipush (v := 20) hx hb dX3_gets_60 (by decide) ?_
          refine lv_iload_n hx hb dX3_gets_62 rfl (lv_at hl 3 rfl) ?_
          refine lv_iadd hx hb dX3_gets_63 ?_
          obtain ⟨v10, hv10, hf⟩ := ob1_e hf
          refine g_iald hx hb hK hW mA0 hv10 dX3_gets_64 ?_
          refine lv_istore (lv' := [(6, .int v10), (5, .int 0), (4, .int v8), (0, .ref (ad 99)), (1, .int a0), (2, .int a1), (3, .int a2)]) hx hb dX3_gets_65 hl (by decide) rfl (fun ls hl => ?_)
          obtain ⟨v11, v12, hq12, hf⟩ := ob2_e hf
          refine m_gets_L67_w hx hb hml hown hts hK hRf hRl hcs I A a0 a1 a2 v8 hW v11 v12 (fun ls hl => ?_) NF 0 v10 ls hq12 (lv_sub hl [3, 4, 5, 6, 2, 1, 0] rfl)
          refine lv_iload hx hb dX3_gets_113 (lv_at hl 3 rfl) ?_
          refine lv_aload_n hx hb dX3_gets_115 rfl (lv_at hl 0 rfl) ?_
          refine g_get (v := .ref (ad 0)) hx hb hts hown hK hW mO in_X3 rfl 0 (by decide) q1212 rfl rfl dX3_gets_116 ?_
          refine lv_bipush (v := 15) hx hb dX3_gets_119 (by decide) ?_
          refine lv_iload_n hx hb dX3_gets_121 rfl (lv_at hl 1 rfl) ?_
          refine lv_iadd hx hb dX3_gets_122 ?_
          obtain ⟨v13, hv13, hf⟩ := ob1_e hf
          refine g_iald hx hb hK hW mA0 hv13 dX3_gets_123 ?_
          obtain ⟨v14, hm14, hf⟩ := ob1_e hf
          refine w_cutL (nL := 8) (L := [(3, .int a2)]) (pcj := 143) (st := [.int v14]) (fun ls hl => ?_) (fun K14 => ?_)
          · refine lv_istore (lv' := [(6, .int v14), (3, .int a2)]) hx hb dX3_gets_143 hl (by decide) rfl (fun ls hl => ?_)
            refine lv_iload_n hx hb dX3_gets_145 rfl (lv_at hl 1 rfl) ?_
            refine lv_iconst (v := 1) hx hb dX3_gets_146 (by decide) ?_
            obtain ⟨v17, hm17, hf⟩ := ob1_e hf
            refine w_cutL (nL := 8) (L := []) (pcj := 165) (st := [.int v17]) (fun ls hl => ?_) (fun K17 => ?_)
            · obtain rfl := so1 hf
              exact W.iret hx hb hr (fun t ht _ => ⟨rfl, ht⟩) (fun q hq => by cases hq) dX3_gets_165
            · refine lv_icmp_ne (tgt := 155) hx hb dX3_gets_147 (by decide) (fun c18 => ?_) (fun c18 => ?_)
              · rw [if_neg c18] at hm17
                refine lv_iload hx hb dX3_gets_155 (lv_at hl 0 rfl) ?_
                refine lv_if_ne (tgt := 164) hx hb dX3_gets_157 (by decide) (fun c19 => ?_) (fun c19 => ?_)
                · rw [if_neg c19] at hm17
                  refine lv_iconst (v := 0) hx hb dX3_gets_164 (by decide) ?_
                  obtain rfl := so1 hm17
                  exact K17 ls (lv_sub hl [] rfl)
                · rw [if_pos c19] at hm17
                  refine lv_iconst (v := 1) hx hb dX3_gets_160 (by decide) ?_
                  refine lv_goto (tgt := 165) hx hb dX3_gets_161 (by decide) ?_
                  obtain rfl := so1 hm17
                  exact K17 ls (lv_sub hl [] rfl)
              · rw [if_pos c18] at hm17
                refine lv_iload hx hb dX3_gets_150 (lv_at hl 0 rfl) ?_
                refine lv_goto (tgt := 165) hx hb dX3_gets_152 (by decide) ?_
                obtain rfl := so1 hm17
                exact K17 ls (lv_sub hl [] rfl)
          · refine lv_icmp_le (tgt := 142) hx hb dX3_gets_124 (by decide) (fun c15 => ?_) (fun c15 => ?_)
            · rw [if_pos c15] at hm14
              refine lv_iconst (v := 0) hx hb dX3_gets_142 (by decide) ?_
              obtain rfl := so1 hm14
              exact K14 ls (lv_sub hl [2] rfl)
            · rw [if_neg c15] at hm14
              refine lv_iload hx hb dX3_gets_127 (lv_at hl 3 rfl) ?_
              refine lv_aload_n hx hb dX3_gets_129 rfl (lv_at hl 0 rfl) ?_
              refine g_get (v := .ref (ad 0)) hx hb hts hown hK hW mO in_X3 rfl 0 (by decide) q1212 rfl rfl dX3_gets_130 ?_
              refine lv_bipush (v := 15) hx hb dX3_gets_133 (by decide) ?_
              refine lv_iload_n hx hb dX3_gets_135 rfl (lv_at hl 1 rfl) ?_
              refine lv_iadd hx hb dX3_gets_136 ?_
              obtain ⟨v16, hv16, hm14⟩ := ob1_e hm14
              refine g_iald hx hb hK hW mA0 hv16 dX3_gets_137 ?_
              refine lv_isub hx hb dX3_gets_138 ?_
              refine lv_goto (tgt := 143) hx hb dX3_gets_139 (by decide) ?_
              obtain rfl := so1 hm14
              exact K14 ls (lv_sub hl [2] rfl)
        · refine lv_icmp_le (tgt := 50) hx hb dX3_gets_43 (by decide) (fun c9 => ?_) (fun c9 => ?_)
          · rw [if_pos c9] at hm8
            refine lv_iconst (v := (-1)) hx hb dX3_gets_50 (by decide) ?_
            obtain rfl := so1 hm8
            exact K8 ls (lv_sub hl [0, 1, 2, 3] rfl)
          · rw [if_neg c9] at hm8
            refine lv_iconst (v := 1) hx hb dX3_gets_46 (by decide) ?_
            refine lv_goto (tgt := 51) hx hb dX3_gets_47 (by decide) ?_
            obtain rfl := so1 hm8
            exact K8 ls (lv_sub hl [0, 1, 2, 3] rfl)
      · rw [if_pos c6] at hf
        refine lv_ldc (v := (-1000001)) hx hb hown (hts _ q1298) dX3_gets_30 ?_
        obtain rfl := so1 hf
        exact W.iret hx hb hr (fun t ht _ => ⟨rfl, ht⟩) (fun q hq => by cases hq) dX3_gets_32
theorem m_gets_ds : yX3_gets.cls = RX3 ∧ yX3_gets.cls ≠ "java/lang/invoke/MethodHandle" ∧ yX3_gets.cls ≠ "java/lang/invoke/VarHandle" ∧ (parseMethodDescriptor yX3_gets.desc).map (fun d => d.parameters.length) = some 3 := by decide +kernel
/-! has -/
def m_has (a0 : Int32) (a1 : Int32) : Option (Int32) :=
  ob1 (if ((a0 >>> (a1 &&& 31)) &&& 1) = 1 then ((some 1 : Option (Int32))) else ((some 0 : Option (Int32)))) fun (v1 : Int32) =>
  zO v1
set_option maxRecDepth 100000 in
set_option maxHeartbeats 4000000 in
theorem m_has_met (l : Launch) (D : dd_) (ad : Nat → Nat) (a0 : Int32) (a1 : Int32) (r : Int32) (hf : m_has a0 a1 = some r) : Met l yX3_has (ws_ yX3_has cX3_has 2 (some .boolean)) ({ frames := 1, cells := 0, slots := 0, locals := 16 }) (PcW D nS ad (fun _ => 0) (fun _ _ => 0) nR nG [.int a0, .int a1]) (QcR (some (.int r))) 0 0 (fun _ => False) := by
  refine Met.ofW (cc := cX3_has) (maxL := 2) (ret := (some .boolean)) (by decide) rfl ?_
  intro p e s m args below meth c s₁ B hml hv
  obtain ⟨rfl, hK, hW⟩ := hv
  have hx := B.exec
  have hb := B.bytes
  have hr := B.returns
  have hts := atoms_spec (ws := (ws_ yX3_has cX3_has 2 (some .boolean))) B.pre
  have hts : ∀ w ∈ lw_all, w.before _ s = true := fun w h => hts w (List.mem_cons_of_mem _ h)
  have hown : s.vm.findClass RX3 = some m.cls := findClass_of_methodNamed B.named
  have hlocks := B.notSynchronized
  have hRf : 1 ≤ (headSpec (ws_ yX3_has cX3_has 2 (some .boolean)) ({ frames := 1, cells := 0, slots := 0, locals := 16 })).room.frames := Nat.le_refl _
  have hRl : 16 ≤ (headSpec (ws_ yX3_has cX3_has 2 (some .boolean)) ({ frames := 1, cells := 0, slots := 0, locals := 16 })).room.locals := Nat.le_refl _
  have hcs : 0 ≤ (headSpec (ws_ yX3_has cX3_has 2 (some .boolean)) ({ frames := 1, cells := 0, slots := 0, locals := 16 })).room.cells ∧ 0 ≤ (headSpec (ws_ yX3_has cX3_has 2 (some .boolean)) ({ frames := 1, cells := 0, slots := 0, locals := 16 })).room.slots := ⟨Nat.zero_le _, Nat.zero_le _⟩
  have hl := lv_entry ([.int a0, .int a1]) (n := 2) (Nat.le_of_ble_eq_true rfl)
  rw [lg_entry_eq]
  generalize (lg_sl ([.int a0, .int a1]) ++ List.replicate (2 - (lg_sl ([.int a0, .int a1])).length) Slot.unset).toArray = ls at hl ⊢
  have hl : lv_has ls 2 [(0, .int a0), (1, .int a1)] := hl
  have hf : (ob1 (if ((a0 >>> (a1 &&& 31)) &&& 1) = 1 then ((some 1 : Option (Int32))) else ((some 0 : Option (Int32)))) fun (v1 : Int32) =>
    zO v1) = some r := hf
  refine lv_iload_n hx hb dX3_has_0 rfl (lv_at hl 0 rfl) ?_
  refine lv_iload_n hx hb dX3_has_1 rfl (lv_at hl 1 rfl) ?_
  refine lv_ishr hx hb dX3_has_2 ?_
  refine lv_iconst (v := 1) hx hb dX3_has_3 (by decide) ?_
  refine lv_iand hx hb dX3_has_4 ?_
  refine lv_iconst (v := 1) hx hb dX3_has_5 (by decide) ?_
  obtain ⟨v1, hm1, hf⟩ := ob1_e hf
  refine w_cutL (nL := 2) (L := []) (pcj := 14) (st := [.int v1]) (fun ls hl => ?_) (fun K1 => ?_)
  · obtain ⟨hz, rfl⟩ := zO_e hf
    exact W.zret hx hb hr (nar_z hz) (fun t ht _ => ⟨rfl, ht⟩) (fun q hq => by cases hq) dX3_has_14
  · refine lv_icmp_ne (tgt := 13) hx hb dX3_has_6 (by decide) (fun c2 => ?_) (fun c2 => ?_)
    · rw [if_neg c2] at hm1
      refine lv_iconst (v := 0) hx hb dX3_has_13 (by decide) ?_
      obtain rfl := so1 hm1
      exact K1 ls (lv_sub hl [] rfl)
    · rw [if_pos c2] at hm1
      refine lv_iconst (v := 1) hx hb dX3_has_9 (by decide) ?_
      refine lv_goto (tgt := 14) hx hb dX3_has_10 (by decide) ?_
      obtain rfl := so1 hm1
      exact K1 ls (lv_sub hl [] rfl)
theorem m_has_ds : yX3_has.cls = RX3 ∧ yX3_has.cls ≠ "java/lang/invoke/MethodHandle" ∧ yX3_has.cls ≠ "java/lang/invoke/VarHandle" ∧ (parseMethodDescriptor yX3_has.desc).map (fun d => d.parameters.length) = some 2 := by decide +kernel
/-! plain -/
def m_plain (a0 : Int32) : Option (Int32) :=
  ob1 (if 0 ≤ a0 then ((some a0 : Option (Int32))) else ((some (-a0) : Option (Int32)))) fun (v1 : Int32) =>
  some v1
set_option maxRecDepth 100000 in
set_option maxHeartbeats 4000000 in
theorem m_plain_met (l : Launch) (D : dd_) (ad : Nat → Nat) (a0 : Int32) (r : Int32) (hf : m_plain a0 = some r) : Met l yX3_plain (ws_ yX3_plain cX3_plain 1 (some .int)) ({ frames := 1, cells := 0, slots := 0, locals := 16 }) (PcW D nS ad (fun _ => 0) (fun _ _ => 0) nR nG [.int a0]) (QcR (some (.int r))) 0 0 (fun _ => False) := by
  refine Met.ofW (cc := cX3_plain) (maxL := 1) (ret := (some .int)) (by decide) rfl ?_
  intro p e s m args below meth c s₁ B hml hv
  obtain ⟨rfl, hK, hW⟩ := hv
  have hx := B.exec
  have hb := B.bytes
  have hr := B.returns
  have hts := atoms_spec (ws := (ws_ yX3_plain cX3_plain 1 (some .int))) B.pre
  have hts : ∀ w ∈ lw_all, w.before _ s = true := fun w h => hts w (List.mem_cons_of_mem _ h)
  have hown : s.vm.findClass RX3 = some m.cls := findClass_of_methodNamed B.named
  have hlocks := B.notSynchronized
  have hRf : 1 ≤ (headSpec (ws_ yX3_plain cX3_plain 1 (some .int)) ({ frames := 1, cells := 0, slots := 0, locals := 16 })).room.frames := Nat.le_refl _
  have hRl : 16 ≤ (headSpec (ws_ yX3_plain cX3_plain 1 (some .int)) ({ frames := 1, cells := 0, slots := 0, locals := 16 })).room.locals := Nat.le_refl _
  have hcs : 0 ≤ (headSpec (ws_ yX3_plain cX3_plain 1 (some .int)) ({ frames := 1, cells := 0, slots := 0, locals := 16 })).room.cells ∧ 0 ≤ (headSpec (ws_ yX3_plain cX3_plain 1 (some .int)) ({ frames := 1, cells := 0, slots := 0, locals := 16 })).room.slots := ⟨Nat.zero_le _, Nat.zero_le _⟩
  have hl := lv_entry ([.int a0]) (n := 1) (Nat.le_of_ble_eq_true rfl)
  rw [lg_entry_eq]
  generalize (lg_sl ([.int a0]) ++ List.replicate (1 - (lg_sl ([.int a0])).length) Slot.unset).toArray = ls at hl ⊢
  have hl : lv_has ls 1 [(0, .int a0)] := hl
  have hf : (ob1 (if 0 ≤ a0 then ((some a0 : Option (Int32))) else ((some (-a0) : Option (Int32)))) fun (v1 : Int32) =>
    some v1) = some r := hf
  refine lv_iload_n hx hb dX3_plain_0 rfl (lv_at hl 0 rfl) ?_
  obtain ⟨v1, hm1, hf⟩ := ob1_e hf
  refine w_cutL (nL := 1) (L := []) (pcj := 10) (st := [.int v1]) (fun ls hl => ?_) (fun K1 => ?_)
  · obtain rfl := so1 hf
    exact W.iret hx hb hr (fun t ht _ => ⟨rfl, ht⟩) (fun q hq => by cases hq) dX3_plain_10
  · refine lv_if_ge (tgt := 9) hx hb dX3_plain_1 (by decide) (fun c2 => ?_) (fun c2 => ?_)
    · rw [if_pos c2] at hm1
      refine lv_iload_n hx hb dX3_plain_9 rfl (lv_at hl 0 rfl) ?_
      obtain rfl := so1 hm1
      exact K1 ls (lv_sub hl [] rfl)
    · rw [if_neg c2] at hm1
      refine lv_iload_n hx hb dX3_plain_4 rfl (lv_at hl 0 rfl) ?_
      refine lv_ineg hx hb dX3_plain_5 ?_
      refine lv_goto (tgt := 10) hx hb dX3_plain_6 (by decide) ?_
      obtain rfl := so1 hm1
      exact K1 ls (lv_sub hl [] rfl)
theorem m_plain_ds : yX3_plain.cls = RX3 ∧ yX3_plain.cls ≠ "java/lang/invoke/MethodHandle" ∧ yX3_plain.cls ≠ "java/lang/invoke/VarHandle" ∧ (parseMethodDescriptor yX3_plain.desc).map (fun d => d.parameters.length) = some 1 := by decide +kernel
/-! findOrder -/
def m_findOrder_L82 (u3 : Int32) (u4 : Int32) (u5 : Int32) (u6 : Int32) (u7 : Int32) : Nat → (Nat → Int32) → (Nat → Nat → Int32) → Int32 → Option ((Nat → Int32) × (Nat → Nat → Int32) × Int32)
  | 0, _, _, _ => none
  | n + 1, I, A, x8 =>
    if u3 ≤ x8 then (some (I, A, x8)) else (ob1 (ldO (A 15) 8 x8) fun (v2 : Int32) =>
      ob1 (stO (A 16) 8 x8 v2) fun (f3 : Nat → Int32) =>
      m_findOrder_L82 u3 u4 u5 u6 u7 n I (va_up A 16 f3) (x8 + 1))
set_option maxRecDepth 100000 in
set_option maxHeartbeats 4000000 in
theorem m_findOrder_L82_w {p : Program} {l : Launch} {e : Env} {R0 : Room} {s : State} {m : MethodId} {args : Array Value} {below : List Frame} {meth : Method} {c : Code} {cells slots : Nat} {Q : State → Prop} {D : dd_} {ad : Nat → Nat} (hx : p.tables.exec = Jvm.exec) (hb : c.code = cX3_findOrder) (hml : c.maxLocals = 9) (hown : s.vm.findClass RX3 = some m.cls) (hts : ∀ w ∈ lw_all, w.before args s = true) (hK : Kx D s) (hRf : 2 ≤ R0.frames) (hRl : 37 ≤ R0.locals) (hcs : cells ≤ R0.cells ∧ slots ≤ R0.slots) (hI : Inj mS ad) (u3 : Int32) (u4 : Int32) (u5 : Int32) (u6 : Int32) (u7 : Int32) (I9 : (Nat → Int32)) (A9 : (Nat → Nat → Int32)) (y8 : Int32) (KX : ∀ (H : Heap) (locs : List Loc) (ls : Array Slot), WH D mS ad I9 A9 nR nG H → va_S (frS mS ad) s.heap H locs → lv_has ls 9 [(0, .ref (ad 99)), (3, .int u3), (4, .int u4), (5, .int u5), (6, .int u6), (7, .int u7)] → W p l e R0 s m args below meth c H locs cells slots Q (F0 m 108 ls [])) : ∀ (n : Nat) (I : (Nat → Int32)) (A : (Nat → Nat → Int32)) (x8 : Int32) (H : Heap) (locs : List Loc) (ls : Array Slot), m_findOrder_L82 u3 u4 u5 u6 u7 n I A x8 = some (I9, A9, y8) → WH D mS ad I A nR nG H → va_S (frS mS ad) s.heap H locs → lv_has ls 9 [(0, .ref (ad 99)), (3, .int u3), (4, .int u4), (5, .int u5), (6, .int u6), (7, .int u7), (8, .int x8)] → W p l e R0 s m args below meth c H locs cells slots Q (F0 m 82 ls []) := by
  intro n
  have hA : ∀ i ∈ idxS mS, frS mS ad (ad i) := fun i hi => ⟨i, hi, rfl⟩
  induction n with
  | zero =>
    intro I A x8 H locs ls hf
    exact nomatch (show (none : Option ((Nat → Int32) × (Nat → Nat → Int32) × Int32)) = some (I9, A9, y8) from hf)
  | succ n ih =>
    intro I A x8 H locs ls hf hW hS hl
    have hf : (if u3 ≤ x8 then (some (I, A, x8)) else (ob1 (ldO (A 15) 8 x8) fun (v2 : Int32) =>
          ob1 (stO (A 16) 8 x8 v2) fun (f3 : Nat → Int32) =>
          m_findOrder_L82 u3 u4 u5 u6 u7 n I (va_up A 16 f3) (x8 + 1))) = some (I9, A9, y8) := hf
    refine lv_iload hx hb dX3_findOrder_82 (lv_at hl 6 rfl) ?_
    refine lv_iload_n hx hb dX3_findOrder_84 rfl (lv_at hl 1 rfl) ?_
    refine lv_icmp_ge (tgt := 108) hx hb dX3_findOrder_85 (by decide) (fun c1 => ?_) (fun c1 => ?_)
    · rw [if_pos c1] at hf
      obtain ⟨rfl, rfl, rfl⟩ := so3 hf
      exact KX _ _ ls hW hS (lv_sub hl [0, 1, 2, 3, 4, 5] rfl)
    · rw [if_neg c1] at hf
      refine lv_aload_n hx hb dX3_findOrder_88 rfl (lv_at hl 0 rfl) ?_
      refine g_get (v := .ref (ad 16)) hx hb hts hown hK hW mO in_X3 rfl 16 (by decide) q1228 rfl rfl dX3_findOrder_89 ?_
      refine lv_iload hx hb dX3_findOrder_92 (lv_at hl 6 rfl) ?_
      refine lv_aload_n hx hb dX3_findOrder_94 rfl (lv_at hl 0 rfl) ?_
      refine g_get (v := .ref (ad 15)) hx hb hts hown hK hW mO in_X3 rfl 15 (by decide) q1227 rfl rfl dX3_findOrder_95 ?_
      refine lv_iload hx hb dX3_findOrder_98 (lv_at hl 6 rfl) ?_
      obtain ⟨v2, hv2, hf⟩ := ob1_e hf
      refine g_iald hx hb hK hW mA15 hv2 dX3_findOrder_100 ?_
      obtain ⟨f3, hf3, hf⟩ := ob1_e hf
      refine g_iast hx hb hK mwf hI hA hW hS mA16 hf3 dX3_findOrder_101 (fun H locs hW hS => ?_)
      refine lv_iinc (v := x8 + 1) (lv' := [(8, .int (x8 + 1)), (0, .ref (ad 99)), (3, .int u3), (4, .int u4), (5, .int u5), (6, .int u6), (7, .int u7)]) hx hb dX3_findOrder_102 hl (k := 6) rfl (by rfl) (by decide) rfl (fun ls hl => ?_)
      refine lv_goto (tgt := 82) hx hb dX3_findOrder_105 (by decide) ?_
      exact ih I (va_up A 16 f3) (x8 + 1) _ _ ls hf hW hS (lv_sub hl [1, 2, 3, 4, 5, 6, 0] rfl)
def m_findOrder_L108 (I : Nat → Int32) (A : Nat → Nat → Int32) (u3 : Int32) (u4 : Int32) (u5 : Int32) (u6 : Int32) : Nat → Int32 → Option (Int32)
  | 0, _ => none
  | n + 1, x7 =>
    if 8 ≤ x7 then (some x7) else (ob1 (m_has u6 x7) fun (v2 : Int32) =>
      if v2 = 0 then (m_findOrder_L108 I A u3 u4 u5 u6 n (x7 + 1)) else (some x7))
set_option maxRecDepth 100000 in
set_option maxHeartbeats 4000000 in
theorem m_findOrder_L108_w {p : Program} {l : Launch} {e : Env} {R0 : Room} {s : State} {m : MethodId} {args : Array Value} {below : List Frame} {meth : Method} {c : Code} {cells slots : Nat} {Q : State → Prop} {D : dd_} {ad : Nat → Nat} (hx : p.tables.exec = Jvm.exec) (hb : c.code = cX3_findOrder) (hml : c.maxLocals = 9) (hown : s.vm.findClass RX3 = some m.cls) (hts : ∀ w ∈ lw_all, w.before args s = true) (hK : Kx D s) (hRf : 2 ≤ R0.frames) (hRl : 37 ≤ R0.locals) (hcs : cells ≤ R0.cells ∧ slots ≤ R0.slots) {H : Heap} {locs : List Loc} (I : Nat → Int32) (A : Nat → Nat → Int32) (u3 : Int32) (u4 : Int32) (u5 : Int32) (u6 : Int32) (hW : WH D mS ad I A nR nG H) (y7 : Int32) (KX : ∀ (ls : Array Slot), lv_has ls 9 [(0, .ref (ad 99)), (3, .int u3), (4, .int u4), (5, .int u5), (6, .int u6), (7, .int y7)] → W p l e R0 s m args below meth c H locs cells slots Q (F0 m 131 ls [])) : ∀ (n : Nat) (x7 : Int32) (ls : Array Slot), m_findOrder_L108 I A u3 u4 u5 u6 n x7 = some y7 → lv_has ls 9 [(0, .ref (ad 99)), (3, .int u3), (4, .int u4), (5, .int u5), (6, .int u6), (7, .int x7)] → W p l e R0 s m args below meth c H locs cells slots Q (F0 m 108 ls []) := by
  intro n
  induction n with
  | zero =>
    intro x7 ls hf
    exact nomatch (show (none : Option (Int32)) = some y7 from hf)
  | succ n ih =>
    intro x7 ls hf hl
    have hf : (if 8 ≤ x7 then (some x7) else (ob1 (m_has u6 x7) fun (v2 : Int32) =>
          if v2 = 0 then (m_findOrder_L108 I A u3 u4 u5 u6 n (x7 + 1)) else (some x7))) = some y7 := hf
    refine lv_iload hx hb dX3_findOrder_108 (lv_at hl 5 rfl) ?_
    refine lv_bipush (v := 8) hx hb dX3_findOrder_110 (by decide) ?_
    refine lv_icmp_ge (tgt := 131) hx hb dX3_findOrder_112 (by decide) (fun c1 => ?_) (fun c1 => ?_)
    · rw [if_pos c1] at hf
      obtain rfl := so1 hf
      exact KX ls (lv_sub hl [0, 1, 2, 3, 4, 5] rfl)
    · rw [if_neg c1] at hf
      refine lv_iload hx hb dX3_findOrder_115 (lv_at hl 4 rfl) ?_
      refine lv_iload hx hb dX3_findOrder_117 (lv_at hl 5 rfl) ?_
      obtain ⟨v2, h2, hf⟩ := ob1_e hf
      refine g_sR (ov := some (.int v2)) (D := D) (Sc := nS) (adc := ad) (Ic := (fun _ => 0)) (Ac := (fun _ _ => 0)) (Rc := nR) (Gc := nG) (As := [.int u6, .int x7]) (rest := []) ⟨hx, hb, hml, hown, hts⟩ (m_has_met l D ad u6 x7 v2 h2) (va_cwS 2 hts (lw_S q1486 q1487 q82 q1488) rfl rfl rfl m_has_ds.2 ⟨Nat.le_trans (Nat.le_of_ble_eq_true rfl) hRf, Nat.le_trans (Nat.le_of_ble_eq_true rfl) hRl⟩) hK WH_nil hcs rfl hl.1 rfl (Nat.le_of_ble_eq_true rfl) dX3_findOrder_119 ?_
      refine lv_if_ne (tgt := 131) hx hb dX3_findOrder_122 (by decide) (fun c3 => ?_) (fun c3 => ?_)
      · rw [if_neg c3] at hf
        obtain rfl := so1 hf
        exact KX ls (lv_sub hl [0, 1, 2, 3, 4, 5] rfl)
      · rw [if_pos c3] at hf
        refine lv_iinc (v := x7 + 1) (lv' := [(7, .int (x7 + 1)), (0, .ref (ad 99)), (3, .int u3), (4, .int u4), (5, .int u5), (6, .int u6)]) hx hb dX3_findOrder_125 hl (k := 5) rfl (by rfl) (by decide) rfl (fun ls hl => ?_)
        refine lv_goto (tgt := 108) hx hb dX3_findOrder_128 (by decide) ?_
        exact ih (x7 + 1) ls hf (lv_sub hl [1, 2, 3, 4, 5, 0] rfl)
def m_findOrder_L47 (u3 : Int32) : Nat → (Nat → Int32) → (Nat → Nat → Int32) → Int32 → Int32 → Int32 → Int32 → Option ((Nat → Int32) × (Nat → Nat → Int32) × Int32 × Int32 × Int32 × Int32)
  | 0, _, _, _, _, _, _ => none
  | n + 1, I, A, x4, x5, x6, x7 =>
    if x5 < 0 then (some (I, A, x4, x5, x6, x7)) else (ob3 (if x5 = u3 then (ob1 (ldO (A 19) 9 x5) fun (v6 : Int32) =>
          if v6 ≤ x4 then ((some (x4, I, A) : Option (Int32 × (Nat → Int32) × (Nat → Nat → Int32)))) else (ob1 (ldO (A 19) 9 x5) fun (v8 : Int32) =>
            ob3 (m_findOrder_L82 u3 v8 x5 x6 x7 NF I A 0) fun (I9 : Nat → Int32) (A10 : Nat → Nat → Int32) (v11 : Int32) =>
            (some (v8, I9, A10) : Option (Int32 × (Nat → Int32) × (Nat → Nat → Int32))))) else ((some (x4, I, A) : Option (Int32 × (Nat → Int32) × (Nat → Nat → Int32))))) fun (v2 : Int32) (I3 : Nat → Int32) (A4 : Nat → Nat → Int32) =>
      ob1 (m_findOrder_L108 I3 A4 u3 v2 x5 x6 NF x7) fun (v12 : Int32) =>
      if v12 = 8 then (ob1 (if 0 ≤ (x5 + (-1)) then (ob1 (ldO (A4 15) 8 (x5 + (-1))) fun (v16 : Int32) =>
            (some (v16 + 1) : Option (Int32))) else ((some 0 : Option (Int32)))) fun (v14 : Int32) =>
        ob1 (if 0 ≤ (x5 + (-1)) then (ob1 (ldO (A4 15) 8 (x5 + (-1))) fun (v19 : Int32) =>
            (some ((1 : Int32) <<< (v19 &&& 31)) : Option (Int32))) else ((some 0 : Option (Int32)))) fun (v17 : Int32) =>
        m_findOrder_L47 u3 n I3 A4 v2 (x5 + (-1)) (x6 ||| v17) v14) else (ob1 (ldO (A4 19) 9 x5) fun (v20 : Int32) =>
        if v2 < ((v20 + u3) - x5) then (ob1 (stO (A4 15) 8 x5 v12) fun (f22 : Nat → Int32) =>
          ob1 (ldO ((va_up A4 15 f22) 17) 9 x5) fun (v23 : Int32) =>
          ob1 (ldO ((va_up A4 15 f22) 0) 2044 (57 + v12)) fun (v24 : Int32) =>
          ob1 (ldO ((va_up A4 15 f22) 18) 9 x5) fun (v25 : Int32) =>
          ob1 (m_plain (v24 - v25)) fun (v26 : Int32) =>
          ob1 (stO ((va_up A4 15 f22) 17) 9 (x5 + 1) (v23 + v26)) fun (f27 : Nat → Int32) =>
          ob1 (ldO ((va_up (va_up A4 15 f22) 17 f27) 0) 2044 (57 + v12)) fun (v28 : Int32) =>
          ob1 (stO ((va_up (va_up A4 15 f22) 17 f27) 18) 9 (x5 + 1) v28) fun (f29 : Nat → Int32) =>
          ob1 (ldO ((va_up (va_up (va_up A4 15 f22) 17 f27) 18 f29) 19) 9 x5) fun (v30 : Int32) =>
          ob1 (ldO ((va_up (va_up (va_up A4 15 f22) 17 f27) 18 f29) 17) 9 (x5 + 1)) fun (v31 : Int32) =>
          ob1 (ldO ((va_up (va_up (va_up A4 15 f22) 17 f27) 18 f29) 0) 2044 (49 + v12)) fun (v32 : Int32) =>
          ob1 (if v32 < v31 then ((some 0 : Option (Int32))) else ((some 1 : Option (Int32)))) fun (v33 : Int32) =>
          ob1 (stO ((va_up (va_up (va_up A4 15 f22) 17 f27) 18 f29) 19) 9 (x5 + 1) (v30 + v33)) fun (f35 : Nat → Int32) =>
          m_findOrder_L47 u3 n I3 (va_up (va_up (va_up (va_up A4 15 f22) 17 f27) 18 f29) 19 f35) v2 (x5 + 1) (x6 &&& (((1 : Int32) <<< (v12 &&& 31)) ^^^ (-1))) 0) else (ob1 (if 0 ≤ (x5 + (-1)) then (ob1 (ldO (A4 15) 8 (x5 + (-1))) fun (v38 : Int32) =>
              (some (v38 + 1) : Option (Int32))) else ((some 0 : Option (Int32)))) fun (v36 : Int32) =>
          ob1 (if 0 ≤ (x5 + (-1)) then (ob1 (ldO (A4 15) 8 (x5 + (-1))) fun (v41 : Int32) =>
              (some ((1 : Int32) <<< (v41 &&& 31)) : Option (Int32))) else ((some 0 : Option (Int32)))) fun (v39 : Int32) =>
          m_findOrder_L47 u3 n I3 A4 v2 (x5 + (-1)) (x6 ||| v39) v36)))
set_option maxRecDepth 100000 in
set_option maxHeartbeats 4000000 in
theorem m_findOrder_L47_w {p : Program} {l : Launch} {e : Env} {R0 : Room} {s : State} {m : MethodId} {args : Array Value} {below : List Frame} {meth : Method} {c : Code} {cells slots : Nat} {Q : State → Prop} {D : dd_} {ad : Nat → Nat} (hx : p.tables.exec = Jvm.exec) (hb : c.code = cX3_findOrder) (hml : c.maxLocals = 9) (hown : s.vm.findClass RX3 = some m.cls) (hts : ∀ w ∈ lw_all, w.before args s = true) (hK : Kx D s) (hRf : 2 ≤ R0.frames) (hRl : 37 ≤ R0.locals) (hcs : cells ≤ R0.cells ∧ slots ≤ R0.slots) (hI : Inj mS ad) (u3 : Int32) (I9 : (Nat → Int32)) (A9 : (Nat → Nat → Int32)) (y4 : Int32) (y5 : Int32) (y6 : Int32) (y7 : Int32) (KX : ∀ (H : Heap) (locs : List Loc) (ls : Array Slot), WH D mS ad I9 A9 nR nG H → va_S (frS mS ad) s.heap H locs → lv_has ls 9 [(4, .int y4)] → W p l e R0 s m args below meth c H locs cells slots Q (F0 m 334 ls [])) : ∀ (n : Nat) (I : (Nat → Int32)) (A : (Nat → Nat → Int32)) (x4 : Int32) (x5 : Int32) (x6 : Int32) (x7 : Int32) (H : Heap) (locs : List Loc) (ls : Array Slot), m_findOrder_L47 u3 n I A x4 x5 x6 x7 = some (I9, A9, y4, y5, y6, y7) → WH D mS ad I A nR nG H → va_S (frS mS ad) s.heap H locs → lv_has ls 9 [(0, .ref (ad 99)), (3, .int u3), (4, .int x4), (5, .int x5), (6, .int x6), (7, .int x7)] → W p l e R0 s m args below meth c H locs cells slots Q (F0 m 47 ls []) := by
  intro n
  have hA : ∀ i ∈ idxS mS, frS mS ad (ad i) := fun i hi => ⟨i, hi, rfl⟩
  induction n with
  | zero =>
    intro I A x4 x5 x6 x7 H locs ls hf
    exact nomatch (show (none : Option ((Nat → Int32) × (Nat → Nat → Int32) × Int32 × Int32 × Int32 × Int32)) = some (I9, A9, y4, y5, y6, y7) from hf)
  | succ n ih =>
    intro I A x4 x5 x6 x7 H locs ls hf hW hS hl
    have hf : (if x5 < 0 then (some (I, A, x4, x5, x6, x7)) else (ob3 (if x5 = u3 then (ob1 (ldO (A 19) 9 x5) fun (v6 : Int32) =>
              if v6 ≤ x4 then ((some (x4, I, A) : Option (Int32 × (Nat → Int32) × (Nat → Nat → Int32)))) else (ob1 (ldO (A 19) 9 x5) fun (v8 : Int32) =>
                ob3 (m_findOrder_L82 u3 v8 x5 x6 x7 NF I A 0) fun (I9 : Nat → Int32) (A10 : Nat → Nat → Int32) (v11 : Int32) =>
                (some (v8, I9, A10) : Option (Int32 × (Nat → Int32) × (Nat → Nat → Int32))))) else ((some (x4, I, A) : Option (Int32 × (Nat → Int32) × (Nat → Nat → Int32))))) fun (v2 : Int32) (I3 : Nat → Int32) (A4 : Nat → Nat → Int32) =>
          ob1 (m_findOrder_L108 I3 A4 u3 v2 x5 x6 NF x7) fun (v12 : Int32) =>
          if v12 = 8 then (ob1 (if 0 ≤ (x5 + (-1)) then (ob1 (ldO (A4 15) 8 (x5 + (-1))) fun (v16 : Int32) =>
                (some (v16 + 1) : Option (Int32))) else ((some 0 : Option (Int32)))) fun (v14 : Int32) =>
            ob1 (if 0 ≤ (x5 + (-1)) then (ob1 (ldO (A4 15) 8 (x5 + (-1))) fun (v19 : Int32) =>
                (some ((1 : Int32) <<< (v19 &&& 31)) : Option (Int32))) else ((some 0 : Option (Int32)))) fun (v17 : Int32) =>
            m_findOrder_L47 u3 n I3 A4 v2 (x5 + (-1)) (x6 ||| v17) v14) else (ob1 (ldO (A4 19) 9 x5) fun (v20 : Int32) =>
            if v2 < ((v20 + u3) - x5) then (ob1 (stO (A4 15) 8 x5 v12) fun (f22 : Nat → Int32) =>
              ob1 (ldO ((va_up A4 15 f22) 17) 9 x5) fun (v23 : Int32) =>
              ob1 (ldO ((va_up A4 15 f22) 0) 2044 (57 + v12)) fun (v24 : Int32) =>
              ob1 (ldO ((va_up A4 15 f22) 18) 9 x5) fun (v25 : Int32) =>
              ob1 (m_plain (v24 - v25)) fun (v26 : Int32) =>
              ob1 (stO ((va_up A4 15 f22) 17) 9 (x5 + 1) (v23 + v26)) fun (f27 : Nat → Int32) =>
              ob1 (ldO ((va_up (va_up A4 15 f22) 17 f27) 0) 2044 (57 + v12)) fun (v28 : Int32) =>
              ob1 (stO ((va_up (va_up A4 15 f22) 17 f27) 18) 9 (x5 + 1) v28) fun (f29 : Nat → Int32) =>
              ob1 (ldO ((va_up (va_up (va_up A4 15 f22) 17 f27) 18 f29) 19) 9 x5) fun (v30 : Int32) =>
              ob1 (ldO ((va_up (va_up (va_up A4 15 f22) 17 f27) 18 f29) 17) 9 (x5 + 1)) fun (v31 : Int32) =>
              ob1 (ldO ((va_up (va_up (va_up A4 15 f22) 17 f27) 18 f29) 0) 2044 (49 + v12)) fun (v32 : Int32) =>
              ob1 (if v32 < v31 then ((some 0 : Option (Int32))) else ((some 1 : Option (Int32)))) fun (v33 : Int32) =>
              ob1 (stO ((va_up (va_up (va_up A4 15 f22) 17 f27) 18 f29) 19) 9 (x5 + 1) (v30 + v33)) fun (f35 : Nat → Int32) =>
              m_findOrder_L47 u3 n I3 (va_up (va_up (va_up (va_up A4 15 f22) 17 f27) 18 f29) 19 f35) v2 (x5 + 1) (x6 &&& (((1 : Int32) <<< (v12 &&& 31)) ^^^ (-1))) 0) else (ob1 (if 0 ≤ (x5 + (-1)) then (ob1 (ldO (A4 15) 8 (x5 + (-1))) fun (v38 : Int32) =>
                  (some (v38 + 1) : Option (Int32))) else ((some 0 : Option (Int32)))) fun (v36 : Int32) =>
              ob1 (if 0 ≤ (x5 + (-1)) then (ob1 (ldO (A4 15) 8 (x5 + (-1))) fun (v41 : Int32) =>
                  (some ((1 : Int32) <<< (v41 &&& 31)) : Option (Int32))) else ((some 0 : Option (Int32)))) fun (v39 : Int32) =>
              m_findOrder_L47 u3 n I3 A4 v2 (x5 + (-1)) (x6 ||| v39) v36)))) = some (I9, A9, y4, y5, y6, y7) := hf
    refine lv_iload hx hb dX3_findOrder_47 (lv_at hl 3 rfl) ?_
    refine lv_if_lt (tgt := 334) hx hb dX3_findOrder_49 (by decide) (fun c1 => ?_) (fun c1 => ?_)
    · rw [if_pos c1] at hf
      obtain ⟨rfl, rfl, rfl, rfl, rfl, rfl⟩ := so6 hf
      exact KX _ _ ls hW hS (lv_sub hl [2] rfl)
    · rw [if_neg c1] at hf
      refine lv_iload hx hb dX3_findOrder_52 (lv_at hl 3 rfl) ?_
      refine lv_iload_n hx hb dX3_findOrder_54 rfl (lv_at hl 1 rfl) ?_
      obtain ⟨v2, I3, A4, hm4, hf⟩ := ob3_e hf
      refine w_cutH (A0 := frS mS ad) (H0 := s.heap) (X := WH D mS ad I3 A4 nR nG) (nL := 9) (L := [(0, .ref (ad 99)), (3, .int u3), (4, .int v2), (5, .int x5), (6, .int x6), (7, .int x7)]) (pcj := 108) (st := []) (fun H locs ls hW hS hl => ?_) (fun K4 => ?_)
      · obtain ⟨v12, hq12, hf⟩ := ob1_e hf
        refine m_findOrder_L108_w hx hb hml hown hts hK hRf hRl hcs I3 A4 u3 v2 x5 x6 hW v12 (fun ls hl => ?_) NF x7 ls hq12 (lv_sub hl [0, 1, 2, 3, 4, 5] rfl)
        refine lv_iload hx hb dX3_findOrder_131 (lv_at hl 5 rfl) ?_
        refine lv_bipush (v := 8) hx hb dX3_findOrder_133 (by decide) ?_
        refine lv_icmp_eq (tgt := 155) hx hb dX3_findOrder_135 (by decide) (fun c13 => ?_) (fun c13 => ?_)
        · rw [if_pos c13] at hf
          refine lv_iinc (v := x5 + (-1)) (lv' := [(5, .int (x5 + (-1))), (0, .ref (ad 99)), (3, .int u3), (4, .int v2), (6, .int x6), (7, .int v12)]) hx hb dX3_findOrder_155 hl (k := 3) rfl (by rfl) (by decide) rfl (fun ls hl => ?_)
          refine lv_iload hx hb dX3_findOrder_158 (lv_at hl 0 rfl) ?_
          obtain ⟨v14, hm14, hf⟩ := ob1_e hf
          refine w_cutL (nL := 9) (L := [(0, .ref (ad 99)), (3, .int u3), (4, .int v2), (5, .int (x5 + (-1))), (6, .int x6)]) (pcj := 176) (st := [.int v14]) (fun ls hl => ?_) (fun K14 => ?_)
          · refine lv_istore (lv' := [(7, .int v14), (0, .ref (ad 99)), (3, .int u3), (4, .int v2), (5, .int (x5 + (-1))), (6, .int x6)]) hx hb dX3_findOrder_176 hl (by decide) rfl (fun ls hl => ?_)
            refine lv_iload hx hb dX3_findOrder_178 (lv_at hl 5 rfl) ?_
            refine lv_iload hx hb dX3_findOrder_180 (lv_at hl 4 rfl) ?_
            obtain ⟨v17, hm17, hf⟩ := ob1_e hf
            refine w_cutL (nL := 9) (L := [(0, .ref (ad 99)), (3, .int u3), (4, .int v2), (5, .int (x5 + (-1))), (7, .int v14)]) (pcj := 198) (st := [.int v17, .int x6]) (fun ls hl => ?_) (fun K17 => ?_)
            · refine lv_ior hx hb dX3_findOrder_198 ?_
              refine lv_istore (lv' := [(6, .int (x6 ||| v17)), (0, .ref (ad 99)), (3, .int u3), (4, .int v2), (5, .int (x5 + (-1))), (7, .int v14)]) hx hb dX3_findOrder_199 hl (by decide) rfl (fun ls hl => ?_)
              refine lv_goto (tgt := 47) hx hb dX3_findOrder_201 (by decide) ?_
              exact ih I3 A4 v2 (x5 + (-1)) (x6 ||| v17) v14 _ _ ls hf hW hS (lv_sub hl [1, 2, 3, 4, 0, 5] rfl)
            · refine lv_if_ge (tgt := 189) hx hb dX3_findOrder_182 (by decide) (fun c18 => ?_) (fun c18 => ?_)
              · rw [if_pos c18] at hm17
                refine lv_iconst (v := 1) hx hb dX3_findOrder_189 (by decide) ?_
                refine lv_aload_n hx hb dX3_findOrder_190 rfl (lv_at hl 1 rfl) ?_
                refine g_get (v := .ref (ad 15)) hx hb hts hown hK hW mO in_X3 rfl 15 (by decide) q1227 rfl rfl dX3_findOrder_191 ?_
                refine lv_iload hx hb dX3_findOrder_194 (lv_at hl 4 rfl) ?_
                obtain ⟨v19, hv19, hm17⟩ := ob1_e hm17
                refine g_iald hx hb hK hW mA15 hv19 dX3_findOrder_196 ?_
                refine lv_ishl hx hb dX3_findOrder_197 ?_
                obtain rfl := so1 hm17
                exact K17 ls (lv_sub hl [1, 2, 3, 4, 0] rfl)
              · rw [if_neg c18] at hm17
                refine lv_iconst (v := 0) hx hb dX3_findOrder_185 (by decide) ?_
                refine lv_goto (tgt := 198) hx hb dX3_findOrder_186 (by decide) ?_
                obtain rfl := so1 hm17
                exact K17 ls (lv_sub hl [1, 2, 3, 4, 0] rfl)
          · refine lv_if_ge (tgt := 167) hx hb dX3_findOrder_160 (by decide) (fun c15 => ?_) (fun c15 => ?_)
            · rw [if_pos c15] at hm14
              refine lv_aload_n hx hb dX3_findOrder_167 rfl (lv_at hl 1 rfl) ?_
              refine g_get (v := .ref (ad 15)) hx hb hts hown hK hW mO in_X3 rfl 15 (by decide) q1227 rfl rfl dX3_findOrder_168 ?_
              refine lv_iload hx hb dX3_findOrder_171 (lv_at hl 0 rfl) ?_
              obtain ⟨v16, hv16, hm14⟩ := ob1_e hm14
              refine g_iald hx hb hK hW mA15 hv16 dX3_findOrder_173 ?_
              refine lv_iconst (v := 1) hx hb dX3_findOrder_174 (by decide) ?_
              refine lv_iadd hx hb dX3_findOrder_175 ?_
              obtain rfl := so1 hm14
              exact K14 ls (lv_sub hl [1, 2, 3, 0, 4] rfl)
            · rw [if_neg c15] at hm14
              refine lv_iconst (v := 0) hx hb dX3_findOrder_163 (by decide) ?_
              refine lv_goto (tgt := 176) hx hb dX3_findOrder_164 (by decide) ?_
              obtain rfl := so1 hm14
              exact K14 ls (lv_sub hl [1, 2, 3, 0, 4] rfl)
        · rw [if_neg c13] at hf
          refine lv_aload_n hx hb dX3_findOrder_138 rfl (lv_at hl 0 rfl) ?_
          refine g_get (v := .ref (ad 19)) hx hb hts hown hK hW mO in_X3 rfl 19 (by decide) q1231 rfl rfl dX3_findOrder_139 ?_
          refine lv_iload hx hb dX3_findOrder_142 (lv_at hl 3 rfl) ?_
          obtain ⟨v20, hv20, hf⟩ := ob1_e hf
          refine g_iald hx hb hK hW mA19 hv20 dX3_findOrder_144 ?_
          refine lv_iload_n hx hb dX3_findOrder_145 rfl (lv_at hl 1 rfl) ?_
          refine lv_iadd hx hb dX3_findOrder_146 ?_
          refine lv_iload hx hb dX3_findOrder_147 (lv_at hl 3 rfl) ?_
          refine lv_isub hx hb dX3_findOrder_149 ?_
          refine lv_iload hx hb dX3_findOrder_150 (lv_at hl 2 rfl) ?_
          refine lv_icmp_gt (tgt := 204) hx hb dX3_findOrder_152 (by decide) (fun c21 => ?_) (fun c21 => ?_)
          · rw [if_pos c21] at hf
            refine lv_aload_n hx hb dX3_findOrder_204 rfl (lv_at hl 0 rfl) ?_
            refine g_get (v := .ref (ad 15)) hx hb hts hown hK hW mO in_X3 rfl 15 (by decide) q1227 rfl rfl dX3_findOrder_205 ?_
            refine lv_iload hx hb dX3_findOrder_208 (lv_at hl 3 rfl) ?_
            refine lv_iload hx hb dX3_findOrder_210 (lv_at hl 5 rfl) ?_
            obtain ⟨f22, hf22, hf⟩ := ob1_e hf
            refine g_iast hx hb hK mwf hI hA hW hS mA15 hf22 dX3_findOrder_212 (fun H locs hW hS => ?_)
            refine lv_iload hx hb dX3_findOrder_213 (lv_at hl 4 rfl) ?_
            refine lv_iconst (v := 1) hx hb dX3_findOrder_215 (by decide) ?_
            refine lv_iload hx hb dX3_findOrder_216 (lv_at hl 5 rfl) ?_
            refine lv_ishl hx hb dX3_findOrder_218 ?_
            refine lv_iconst (v := (-1)) hx hb dX3_findOrder_219 (by decide) ?_
            refine lv_ixor hx hb dX3_findOrder_220 ?_
            refine lv_iand hx hb dX3_findOrder_221 ?_
            refine lv_istore (lv' := [(6, .int (x6 &&& (((1 : Int32) <<< (v12 &&& 31)) ^^^ (-1)))), (0, .ref (ad 99)), (3, .int u3), (4, .int v2), (5, .int x5), (7, .int v12)]) hx hb dX3_findOrder_222 hl (by decide) rfl (fun ls hl => ?_)
            refine lv_aload_n hx hb dX3_findOrder_224 rfl (lv_at hl 1 rfl) ?_
            refine g_get (v := .ref (ad 17)) hx hb hts hown hK hW mO in_X3 rfl 17 (by decide) q1229 rfl rfl dX3_findOrder_225 ?_
            refine lv_iload hx hb dX3_findOrder_228 (lv_at hl 4 rfl) ?_
            refine lv_iconst (v := 1) hx hb dX3_findOrder_230 (by decide) ?_
            refine lv_iadd hx hb dX3_findOrder_231 ?_
            refine lv_aload_n hx hb dX3_findOrder_232 rfl (lv_at hl 1 rfl) ?_
            refine g_get (v := .ref (ad 17)) hx hb hts hown hK hW mO in_X3 rfl 17 (by decide) q1229 rfl rfl dX3_findOrder_233 ?_
            refine lv_iload hx hb dX3_findOrder_236 (lv_at hl 4 rfl) ?_
            obtain ⟨v23, hv23, hf⟩ := ob1_e hf
            refine g_iald hx hb hK hW mA17 hv23 dX3_findOrder_238 ?_
            refine lv_aload_n hx hb dX3_findOrder_239 rfl (lv_at hl 1 rfl) ?_
            refine g_get (v := .ref (ad 0)) hx hb hts hown hK hW mO in_X3 rfl 0 (by decide) q1212 rfl rfl dX3_findOrder_240 ?_
            refine lv_bipush (v := 57) hx hb dX3_findOrder_243 (by decide) ?_
            refine lv_iload hx hb dX3_findOrder_245 (lv_at hl 5 rfl) ?_
            refine lv_iadd hx hb dX3_findOrder_247 ?_
            obtain ⟨v24, hv24, hf⟩ := ob1_e hf
            refine g_iald hx hb hK hW mA0 hv24 dX3_findOrder_248 ?_
            refine lv_aload_n hx hb dX3_findOrder_249 rfl (lv_at hl 1 rfl) ?_
            refine g_get (v := .ref (ad 18)) hx hb hts hown hK hW mO in_X3 rfl 18 (by decide) q1230 rfl rfl dX3_findOrder_250 ?_
            refine lv_iload hx hb dX3_findOrder_253 (lv_at hl 4 rfl) ?_
            obtain ⟨v25, hv25, hf⟩ := ob1_e hf
            refine g_iald hx hb hK hW mA18 hv25 dX3_findOrder_255 ?_
            refine lv_isub hx hb dX3_findOrder_256 ?_
            obtain ⟨v26, h26, hf⟩ := ob1_e hf
            refine g_sR (ov := some (.int v26)) (D := D) (Sc := nS) (adc := ad) (Ic := (fun _ => 0)) (Ac := (fun _ _ => 0)) (Rc := nR) (Gc := nG) (As := [.int (v24 - v25)]) (rest := [.int v23, .int (x5 + 1), .ref (ad 17)]) ⟨hx, hb, hml, hown, hts⟩ (m_plain_met l D ad (v24 - v25) v26 h26) (va_cwS 1 hts (lw_S q1489 q1490 q82 q1491) rfl rfl rfl m_plain_ds.2 ⟨Nat.le_trans (Nat.le_of_ble_eq_true rfl) hRf, Nat.le_trans (Nat.le_of_ble_eq_true rfl) hRl⟩) hK WH_nil hcs rfl hl.1 rfl (Nat.le_of_ble_eq_true rfl) dX3_findOrder_257 ?_
            refine lv_iadd hx hb dX3_findOrder_260 ?_
            obtain ⟨f27, hf27, hf⟩ := ob1_e hf
            refine g_iast hx hb hK mwf hI hA hW hS mA17 hf27 dX3_findOrder_261 (fun H locs hW hS => ?_)
            refine lv_aload_n hx hb dX3_findOrder_262 rfl (lv_at hl 1 rfl) ?_
            refine g_get (v := .ref (ad 18)) hx hb hts hown hK hW mO in_X3 rfl 18 (by decide) q1230 rfl rfl dX3_findOrder_263 ?_
            refine lv_iload hx hb dX3_findOrder_266 (lv_at hl 4 rfl) ?_
            refine lv_iconst (v := 1) hx hb dX3_findOrder_268 (by decide) ?_
            refine lv_iadd hx hb dX3_findOrder_269 ?_
            refine lv_aload_n hx hb dX3_findOrder_270 rfl (lv_at hl 1 rfl) ?_
            refine g_get (v := .ref (ad 0)) hx hb hts hown hK hW mO in_X3 rfl 0 (by decide) q1212 rfl rfl dX3_findOrder_271 ?_
            refine lv_bipush (v := 57) hx hb dX3_findOrder_274 (by decide) ?_
            refine lv_iload hx hb dX3_findOrder_276 (lv_at hl 5 rfl) ?_
            refine lv_iadd hx hb dX3_findOrder_278 ?_
            obtain ⟨v28, hv28, hf⟩ := ob1_e hf
            refine g_iald hx hb hK hW mA0 hv28 dX3_findOrder_279 ?_
            obtain ⟨f29, hf29, hf⟩ := ob1_e hf
            refine g_iast hx hb hK mwf hI hA hW hS mA18 hf29 dX3_findOrder_280 (fun H locs hW hS => ?_)
            refine lv_aload_n hx hb dX3_findOrder_281 rfl (lv_at hl 1 rfl) ?_
            refine g_get (v := .ref (ad 19)) hx hb hts hown hK hW mO in_X3 rfl 19 (by decide) q1231 rfl rfl dX3_findOrder_282 ?_
            refine lv_iload hx hb dX3_findOrder_285 (lv_at hl 4 rfl) ?_
            refine lv_iconst (v := 1) hx hb dX3_findOrder_287 (by decide) ?_
            refine lv_iadd hx hb dX3_findOrder_288 ?_
            refine lv_aload_n hx hb dX3_findOrder_289 rfl (lv_at hl 1 rfl) ?_
            refine g_get (v := .ref (ad 19)) hx hb hts hown hK hW mO in_X3 rfl 19 (by decide) q1231 rfl rfl dX3_findOrder_290 ?_
            refine lv_iload hx hb dX3_findOrder_293 (lv_at hl 4 rfl) ?_
            obtain ⟨v30, hv30, hf⟩ := ob1_e hf
            refine g_iald hx hb hK hW mA19 hv30 dX3_findOrder_295 ?_
            refine lv_aload_n hx hb dX3_findOrder_296 rfl (lv_at hl 1 rfl) ?_
            refine g_get (v := .ref (ad 17)) hx hb hts hown hK hW mO in_X3 rfl 17 (by decide) q1229 rfl rfl dX3_findOrder_297 ?_
            refine lv_iload hx hb dX3_findOrder_300 (lv_at hl 4 rfl) ?_
            refine lv_iconst (v := 1) hx hb dX3_findOrder_302 (by decide) ?_
            refine lv_iadd hx hb dX3_findOrder_303 ?_
            obtain ⟨v31, hv31, hf⟩ := ob1_e hf
            refine g_iald hx hb hK hW mA17 hv31 dX3_findOrder_304 ?_
            refine lv_aload_n hx hb dX3_findOrder_305 rfl (lv_at hl 1 rfl) ?_
            refine g_get (v := .ref (ad 0)) hx hb hts hown hK hW mO in_X3 rfl 0 (by decide) q1212 rfl rfl dX3_findOrder_306 ?_
            refine lv_bipush (v := 49) hx hb dX3_findOrder_309 (by decide) ?_
            refine lv_iload hx hb dX3_findOrder_311 (lv_at hl 5 rfl) ?_
            refine lv_iadd hx hb dX3_findOrder_313 ?_
            obtain ⟨v32, hv32, hf⟩ := ob1_e hf
            refine g_iald hx hb hK hW mA0 hv32 dX3_findOrder_314 ?_
            obtain ⟨v33, hm33, hf⟩ := ob1_e hf
            refine w_cutL (nL := 9) (L := [(0, .ref (ad 99)), (3, .int u3), (4, .int v2), (5, .int x5), (6, .int (x6 &&& (((1 : Int32) <<< (v12 &&& 31)) ^^^ (-1))))]) (pcj := 323) (st := [.int v33, .int v30, .int (x5 + 1), .ref (ad 19)]) (fun ls hl => ?_) (fun K33 => ?_)
            · refine lv_iadd hx hb dX3_findOrder_323 ?_
              obtain ⟨f35, hf35, hf⟩ := ob1_e hf
              refine g_iast hx hb hK mwf hI hA hW hS mA19 hf35 dX3_findOrder_324 (fun H locs hW hS => ?_)
              refine lv_iinc (v := x5 + 1) (lv' := [(5, .int (x5 + 1)), (0, .ref (ad 99)), (3, .int u3), (4, .int v2), (6, .int (x6 &&& (((1 : Int32) <<< (v12 &&& 31)) ^^^ (-1))))]) hx hb dX3_findOrder_325 hl (k := 3) rfl (by rfl) (by decide) rfl (fun ls hl => ?_)
              refine lv_iconst (v := 0) hx hb dX3_findOrder_328 (by decide) ?_
              refine lv_istore (lv' := [(7, .int 0), (5, .int (x5 + 1)), (0, .ref (ad 99)), (3, .int u3), (4, .int v2), (6, .int (x6 &&& (((1 : Int32) <<< (v12 &&& 31)) ^^^ (-1))))]) hx hb dX3_findOrder_329 hl (by decide) rfl (fun ls hl => ?_)
              refine lv_goto (tgt := 47) hx hb dX3_findOrder_331 (by decide) ?_
              exact ih I3 (va_up (va_up (va_up (va_up A4 15 f22) 17 f27) 18 f29) 19 f35) v2 (x5 + 1) (x6 &&& (((1 : Int32) <<< (v12 &&& 31)) ^^^ (-1))) 0 _ _ ls hf hW hS (lv_sub hl [2, 3, 4, 1, 5, 0] rfl)
            · refine lv_icmp_gt (tgt := 322) hx hb dX3_findOrder_315 (by decide) (fun c34 => ?_) (fun c34 => ?_)
              · rw [if_pos c34] at hm33
                refine lv_iconst (v := 0) hx hb dX3_findOrder_322 (by decide) ?_
                obtain rfl := so1 hm33
                exact K33 ls (lv_sub hl [1, 2, 3, 4, 0] rfl)
              · rw [if_neg c34] at hm33
                refine lv_iconst (v := 1) hx hb dX3_findOrder_318 (by decide) ?_
                refine lv_goto (tgt := 323) hx hb dX3_findOrder_319 (by decide) ?_
                obtain rfl := so1 hm33
                exact K33 ls (lv_sub hl [1, 2, 3, 4, 0] rfl)
          · rw [if_neg c21] at hf
            refine lv_iinc (v := x5 + (-1)) (lv' := [(5, .int (x5 + (-1))), (0, .ref (ad 99)), (3, .int u3), (4, .int v2), (6, .int x6), (7, .int v12)]) hx hb dX3_findOrder_155 hl (k := 3) rfl (by rfl) (by decide) rfl (fun ls hl => ?_)
            refine lv_iload hx hb dX3_findOrder_158 (lv_at hl 0 rfl) ?_
            obtain ⟨v36, hm36, hf⟩ := ob1_e hf
            refine w_cutL (nL := 9) (L := [(0, .ref (ad 99)), (3, .int u3), (4, .int v2), (5, .int (x5 + (-1))), (6, .int x6)]) (pcj := 176) (st := [.int v36]) (fun ls hl => ?_) (fun K36 => ?_)
            · refine lv_istore (lv' := [(7, .int v36), (0, .ref (ad 99)), (3, .int u3), (4, .int v2), (5, .int (x5 + (-1))), (6, .int x6)]) hx hb dX3_findOrder_176 hl (by decide) rfl (fun ls hl => ?_)
              refine lv_iload hx hb dX3_findOrder_178 (lv_at hl 5 rfl) ?_
              refine lv_iload hx hb dX3_findOrder_180 (lv_at hl 4 rfl) ?_
              obtain ⟨v39, hm39, hf⟩ := ob1_e hf
              refine w_cutL (nL := 9) (L := [(0, .ref (ad 99)), (3, .int u3), (4, .int v2), (5, .int (x5 + (-1))), (7, .int v36)]) (pcj := 198) (st := [.int v39, .int x6]) (fun ls hl => ?_) (fun K39 => ?_)
              · refine lv_ior hx hb dX3_findOrder_198 ?_
                refine lv_istore (lv' := [(6, .int (x6 ||| v39)), (0, .ref (ad 99)), (3, .int u3), (4, .int v2), (5, .int (x5 + (-1))), (7, .int v36)]) hx hb dX3_findOrder_199 hl (by decide) rfl (fun ls hl => ?_)
                refine lv_goto (tgt := 47) hx hb dX3_findOrder_201 (by decide) ?_
                exact ih I3 A4 v2 (x5 + (-1)) (x6 ||| v39) v36 _ _ ls hf hW hS (lv_sub hl [1, 2, 3, 4, 0, 5] rfl)
              · refine lv_if_ge (tgt := 189) hx hb dX3_findOrder_182 (by decide) (fun c40 => ?_) (fun c40 => ?_)
                · rw [if_pos c40] at hm39
                  refine lv_iconst (v := 1) hx hb dX3_findOrder_189 (by decide) ?_
                  refine lv_aload_n hx hb dX3_findOrder_190 rfl (lv_at hl 1 rfl) ?_
                  refine g_get (v := .ref (ad 15)) hx hb hts hown hK hW mO in_X3 rfl 15 (by decide) q1227 rfl rfl dX3_findOrder_191 ?_
                  refine lv_iload hx hb dX3_findOrder_194 (lv_at hl 4 rfl) ?_
                  obtain ⟨v41, hv41, hm39⟩ := ob1_e hm39
                  refine g_iald hx hb hK hW mA15 hv41 dX3_findOrder_196 ?_
                  refine lv_ishl hx hb dX3_findOrder_197 ?_
                  obtain rfl := so1 hm39
                  exact K39 ls (lv_sub hl [1, 2, 3, 4, 0] rfl)
                · rw [if_neg c40] at hm39
                  refine lv_iconst (v := 0) hx hb dX3_findOrder_185 (by decide) ?_
                  refine lv_goto (tgt := 198) hx hb dX3_findOrder_186 (by decide) ?_
                  obtain rfl := so1 hm39
                  exact K39 ls (lv_sub hl [1, 2, 3, 4, 0] rfl)
            · refine lv_if_ge (tgt := 167) hx hb dX3_findOrder_160 (by decide) (fun c37 => ?_) (fun c37 => ?_)
              · rw [if_pos c37] at hm36
                refine lv_aload_n hx hb dX3_findOrder_167 rfl (lv_at hl 1 rfl) ?_
                refine g_get (v := .ref (ad 15)) hx hb hts hown hK hW mO in_X3 rfl 15 (by decide) q1227 rfl rfl dX3_findOrder_168 ?_
                refine lv_iload hx hb dX3_findOrder_171 (lv_at hl 0 rfl) ?_
                obtain ⟨v38, hv38, hm36⟩ := ob1_e hm36
                refine g_iald hx hb hK hW mA15 hv38 dX3_findOrder_173 ?_
                refine lv_iconst (v := 1) hx hb dX3_findOrder_174 (by decide) ?_
                refine lv_iadd hx hb dX3_findOrder_175 ?_
                obtain rfl := so1 hm36
                exact K36 ls (lv_sub hl [1, 2, 3, 0, 4] rfl)
              · rw [if_neg c37] at hm36
                refine lv_iconst (v := 0) hx hb dX3_findOrder_163 (by decide) ?_
                refine lv_goto (tgt := 176) hx hb dX3_findOrder_164 (by decide) ?_
                obtain rfl := so1 hm36
                exact K36 ls (lv_sub hl [1, 2, 3, 0, 4] rfl)
      · refine lv_icmp_ne (tgt := 108) hx hb dX3_findOrder_55 (by decide) (fun c5 => ?_) (fun c5 => ?_)
        · rw [if_neg c5] at hm4
          obtain ⟨rfl, rfl, rfl⟩ := so3 hm4
          exact K4 _ _ ls hW hS (lv_sub hl [0, 1, 2, 3, 4, 5] rfl)
        · rw [if_pos c5] at hm4
          refine lv_aload_n hx hb dX3_findOrder_58 rfl (lv_at hl 0 rfl) ?_
          refine g_get (v := .ref (ad 19)) hx hb hts hown hK hW mO in_X3 rfl 19 (by decide) q1231 rfl rfl dX3_findOrder_59 ?_
          refine lv_iload hx hb dX3_findOrder_62 (lv_at hl 3 rfl) ?_
          obtain ⟨v6, hv6, hm4⟩ := ob1_e hm4
          refine g_iald hx hb hK hW mA19 hv6 dX3_findOrder_64 ?_
          refine lv_iload hx hb dX3_findOrder_65 (lv_at hl 2 rfl) ?_
          refine lv_icmp_le (tgt := 108) hx hb dX3_findOrder_67 (by decide) (fun c7 => ?_) (fun c7 => ?_)
          · rw [if_pos c7] at hm4
            obtain ⟨rfl, rfl, rfl⟩ := so3 hm4
            exact K4 _ _ ls hW hS (lv_sub hl [0, 1, 2, 3, 4, 5] rfl)
          · rw [if_neg c7] at hm4
            refine lv_aload_n hx hb dX3_findOrder_70 rfl (lv_at hl 0 rfl) ?_
            refine g_get (v := .ref (ad 19)) hx hb hts hown hK hW mO in_X3 rfl 19 (by decide) q1231 rfl rfl dX3_findOrder_71 ?_
            refine lv_iload hx hb dX3_findOrder_74 (lv_at hl 3 rfl) ?_
            obtain ⟨v8, hv8, hm4⟩ := ob1_e hm4
            refine g_iald hx hb hK hW mA19 hv8 dX3_findOrder_76 ?_
            refine lv_istore (lv' := [(4, .int v8), (0, .ref (ad 99)), (3, .int u3), (5, .int x5), (6, .int x6), (7, .int x7)]) hx hb dX3_findOrder_77 hl (by decide) rfl (fun ls hl => ?_)
            refine lv_iconst (v := 0) hx hb dX3_findOrder_79 (by decide) ?_
            refine lv_istore (lv' := [(8, .int 0), (4, .int v8), (0, .ref (ad 99)), (3, .int u3), (5, .int x5), (6, .int x6), (7, .int x7)]) hx hb dX3_findOrder_80 hl (by decide) rfl (fun ls hl => ?_)
            obtain ⟨I9, A10, v11, hq11, hm4⟩ := ob3_e hm4
            refine m_findOrder_L82_w hx hb hml hown hts hK hRf hRl hcs hI u3 v8 x5 x6 x7 I9 A10 v11 (fun H locs ls hW hS hl => ?_) NF I A 0 _ _ ls hq11 hW hS (lv_sub hl [2, 3, 1, 4, 5, 6, 0] rfl)
            obtain ⟨rfl, rfl, rfl⟩ := so3 hm4
            exact K4 _ _ ls hW hS (lv_sub hl [0, 1, 2, 3, 4, 5] rfl)
def m_findOrder (I : Nat → Int32) (A : Nat → Nat → Int32) (a0 : Int32) (a1 : Int32) (a2 : Int32) : Option (Int32 × (Nat → Int32) × (Nat → Nat → Int32)) :=
  ob1 (ldO (A 0) 2044 8) fun (v1 : Int32) =>
  ob1 (stO (A 17) 9 0 v1) fun (f2 : Nat → Int32) =>
  ob1 (ldO ((va_up A 17 f2) 0) 2044 (20 + a0)) fun (v3 : Int32) =>
  ob1 (stO ((va_up A 17 f2) 18) 9 0 v3) fun (f4 : Nat → Int32) =>
  ob1 (stO ((va_up (va_up A 17 f2) 18 f4) 19) 9 0 0) fun (f5 : Nat → Int32) =>
  ob6 (m_findOrder_L47 a2 NF I (va_up (va_up (va_up A 17 f2) 18 f4) 19 f5) (-1) 0 a1 0) fun (I6 : Nat → Int32) (A7 : Nat → Nat → Int32) (v8 : Int32) (v9 : Int32) (v10 : Int32) (v11 : Int32) =>
  some (v8, I6, A7)
set_option maxRecDepth 100000 in
set_option maxHeartbeats 4000000 in
theorem m_findOrder_met (l : Launch) (D : dd_) (ad : Nat → Nat) (hI : Inj mS ad) (I : Nat → Int32) (A : Nat → Nat → Int32) (a0 : Int32) (a1 : Int32) (a2 : Int32) (r : Int32) (I1 : (Nat → Int32)) (A1 : (Nat → Nat → Int32)) (hf : m_findOrder I A a0 a1 a2 = some (r, I1, A1)) : Met l yX3_findOrder (ws_ yX3_findOrder cX3_findOrder 9 (some .int)) ({ frames := 2, cells := 0, slots := 0, locals := 37 }) (PcW D mS ad I A nR nG [.ref (ad 99), .int a0, .int a1, .int a2]) (QcW D mS ad I1 A1 nR nG (some (.int r))) 0 0 (frS mS ad) := by
  refine Met.ofW (cc := cX3_findOrder) (maxL := 9) (ret := (some .int)) (by decide) rfl ?_
  intro p e s m args below meth c s₁ B hml hv
  obtain ⟨rfl, hK, hW⟩ := hv
  have hx := B.exec
  have hb := B.bytes
  have hr := B.returns
  have hts := atoms_spec (ws := (ws_ yX3_findOrder cX3_findOrder 9 (some .int))) B.pre
  have hts : ∀ w ∈ lw_all, w.before _ s = true := fun w h => hts w (List.mem_cons_of_mem _ h)
  have hown : s.vm.findClass RX3 = some m.cls := findClass_of_methodNamed B.named
  have hlocks := B.notSynchronized
  have hRf : 2 ≤ (headSpec (ws_ yX3_findOrder cX3_findOrder 9 (some .int)) ({ frames := 2, cells := 0, slots := 0, locals := 37 })).room.frames := Nat.le_refl _
  have hRl : 37 ≤ (headSpec (ws_ yX3_findOrder cX3_findOrder 9 (some .int)) ({ frames := 2, cells := 0, slots := 0, locals := 37 })).room.locals := Nat.le_refl _
  have hcs : 0 ≤ (headSpec (ws_ yX3_findOrder cX3_findOrder 9 (some .int)) ({ frames := 2, cells := 0, slots := 0, locals := 37 })).room.cells ∧ 0 ≤ (headSpec (ws_ yX3_findOrder cX3_findOrder 9 (some .int)) ({ frames := 2, cells := 0, slots := 0, locals := 37 })).room.slots := ⟨Nat.zero_le _, Nat.zero_le _⟩
  have hA : ∀ i ∈ idxS mS, frS mS ad (ad i) := fun i hi => ⟨i, hi, rfl⟩
  have hS : va_S (frS mS ad) s.heap s.heap [] := va_S.rf
  have hl := lv_entry ([.ref (ad 99), .int a0, .int a1, .int a2]) (n := 9) (Nat.le_of_ble_eq_true rfl)
  rw [lg_entry_eq]
  generalize (lg_sl ([.ref (ad 99), .int a0, .int a1, .int a2]) ++ List.replicate (9 - (lg_sl ([.ref (ad 99), .int a0, .int a1, .int a2])).length) Slot.unset).toArray = ls at hl ⊢
  have hl : lv_has ls 9 [(0, .ref (ad 99)), (1, .int a0), (2, .int a1), (3, .int a2)] := hl
  have hf : (ob1 (ldO (A 0) 2044 8) fun (v1 : Int32) =>
    ob1 (stO (A 17) 9 0 v1) fun (f2 : Nat → Int32) =>
    ob1 (ldO ((va_up A 17 f2) 0) 2044 (20 + a0)) fun (v3 : Int32) =>
    ob1 (stO ((va_up A 17 f2) 18) 9 0 v3) fun (f4 : Nat → Int32) =>
    ob1 (stO ((va_up (va_up A 17 f2) 18 f4) 19) 9 0 0) fun (f5 : Nat → Int32) =>
    ob6 (m_findOrder_L47 a2 NF I (va_up (va_up (va_up A 17 f2) 18 f4) 19 f5) (-1) 0 a1 0) fun (I6 : Nat → Int32) (A7 : Nat → Nat → Int32) (v8 : Int32) (v9 : Int32) (v10 : Int32) (v11 : Int32) =>
    some (v8, I6, A7)) = some (r, I1, A1) := hf
  refine lv_iconst (v := (-1)) hx hb dX3_findOrder_0 (by decide) ?_
  refine lv_istore (lv' := [(4, .int (-1)), (0, .ref (ad 99)), (1, .int a0), (2, .int a1), (3, .int a2)]) hx hb dX3_findOrder_1 hl (by decide) rfl (fun ls hl => ?_)
  refine lv_iconst (v := 0) hx hb dX3_findOrder_3 (by decide) ?_
  refine lv_istore (lv' := [(5, .int 0), (4, .int (-1)), (0, .ref (ad 99)), (1, .int a0), (2, .int a1), (3, .int a2)]) hx hb dX3_findOrder_4 hl (by decide) rfl (fun ls hl => ?_)
  refine lv_iload_n hx hb dX3_findOrder_6 rfl (lv_at hl 4 rfl) ?_
  refine lv_istore (lv' := [(6, .int a1), (5, .int 0), (4, .int (-1)), (0, .ref (ad 99)), (1, .int a0), (2, .int a1), (3, .int a2)]) hx hb dX3_findOrder_7 hl (by decide) rfl (fun ls hl => ?_)
  refine lv_aload_n hx hb dX3_findOrder_9 rfl (lv_at hl 3 rfl) ?_
  refine g_get (v := .ref (ad 17)) hx hb hts hown hK hW mO in_X3 rfl 17 (by decide) q1229 rfl rfl dX3_findOrder_10 ?_
  refine lv_iconst (v := 0) hx hb dX3_findOrder_13 (by decide) ?_
  refine lv_aload_n hx hb dX3_findOrder_14 rfl (lv_at hl 3 rfl) ?_
  refine g_get (v := .ref (ad 0)) hx hb hts hown hK hW mO in_X3 rfl 0 (by decide) q1212 rfl rfl dX3_findOrder_15 ?_
  refine lv_bipush (v := 8) hx hb dX3_findOrder_18 (by decide) ?_
  obtain ⟨v1, hv1, hf⟩ := ob1_e hf
  refine g_iald hx hb hK hW mA0 hv1 dX3_findOrder_20 ?_
  obtain ⟨f2, hf2, hf⟩ := ob1_e hf
  refine g_iast hx hb hK mwf hI hA hW hS mA17 hf2 dX3_findOrder_21 (fun H locs hW hS => ?_)
  refine lv_aload_n hx hb dX3_findOrder_22 rfl (lv_at hl 3 rfl) ?_
  refine g_get (v := .ref (ad 18)) hx hb hts hown hK hW mO in_X3 rfl 18 (by decide) q1230 rfl rfl dX3_findOrder_23 ?_
  refine lv_iconst (v := 0) hx hb dX3_findOrder_26 (by decide) ?_
  refine lv_aload_n hx hb dX3_findOrder_27 rfl (lv_at hl 3 rfl) ?_
  refine g_get (v := .ref (ad 0)) hx hb hts hown hK hW mO in_X3 rfl 0 (by decide) q1212 rfl rfl dX3_findOrder_28 ?_
  refine lv_bipush (v := 20) hx hb dX3_findOrder_31 (by decide) ?_
  refine lv_iload_n hx hb dX3_findOrder_33 rfl (lv_at hl 4 rfl) ?_
  refine lv_iadd hx hb dX3_findOrder_34 ?_
  obtain ⟨v3, hv3, hf⟩ := ob1_e hf
  refine g_iald hx hb hK hW mA0 hv3 dX3_findOrder_35 ?_
  obtain ⟨f4, hf4, hf⟩ := ob1_e hf
  refine g_iast hx hb hK mwf hI hA hW hS mA18 hf4 dX3_findOrder_36 (fun H locs hW hS => ?_)
  refine lv_aload_n hx hb dX3_findOrder_37 rfl (lv_at hl 3 rfl) ?_
  refine g_get (v := .ref (ad 19)) hx hb hts hown hK hW mO in_X3 rfl 19 (by decide) q1231 rfl rfl dX3_findOrder_38 ?_
  refine lv_iconst (v := 0) hx hb dX3_findOrder_41 (by decide) ?_
  refine lv_iconst (v := 0) hx hb dX3_findOrder_42 (by decide) ?_
  obtain ⟨f5, hf5, hf⟩ := ob1_e hf
  refine g_iast hx hb hK mwf hI hA hW hS mA19 hf5 dX3_findOrder_43 (fun H locs hW hS => ?_)
  refine lv_iconst (v := 0) hx hb dX3_findOrder_44 (by decide) ?_
  refine lv_istore (lv' := [(7, .int 0), (6, .int a1), (5, .int 0), (4, .int (-1)), (0, .ref (ad 99)), (1, .int a0), (2, .int a1), (3, .int a2)]) hx hb dX3_findOrder_45 hl (by decide) rfl (fun ls hl => ?_)
  obtain ⟨I6, A7, v8, v9, v10, v11, hq11, hf⟩ := ob6_e hf
  refine m_findOrder_L47_w hx hb hml hown hts hK hRf hRl hcs hI a2 I6 A7 v8 v9 v10 v11 (fun H locs ls hW hS hl => ?_) NF I (va_up (va_up (va_up A 17 f2) 18 f4) 19 f5) (-1) 0 a1 0 _ _ ls hq11 hW hS (lv_sub hl [4, 7, 3, 2, 1, 0] rfl)
  refine lv_iload hx hb dX3_findOrder_334 (lv_at hl 0 rfl) ?_
  obtain ⟨rfl, rfl, rfl⟩ := so3 hf
  exact W.iret hx hb hr (fun t ht _ => ⟨rfl, by rw [ht]; exact hW, hS.F ht⟩) hS.2.2 dX3_findOrder_336
theorem m_findOrder_ds : yX3_findOrder.cls = RX3 ∧ yX3_findOrder.cls ≠ "java/lang/invoke/MethodHandle" ∧ yX3_findOrder.cls ≠ "java/lang/invoke/VarHandle" ∧ (parseMethodDescriptor yX3_findOrder.desc).map (fun d => d.parameters.length) = some 3 := by decide +kernel
/-! keeps -/
def m_keeps_L33 (I : Nat → Int32) (A : Nat → Nat → Int32) (u1 : Int32) (u2 : Int32) : Nat → Int32 → Int32 → Int32 → Option (Int32 × Int32 × Int32)
  | 0, _, _, _ => none
  | n + 1, x3, x4, x5 =>
    ob1 (ldO (A 0) 2044 7) fun (v1 : Int32) =>
    if v1 ≤ x5 then (some (x3, x4, x5)) else (ob1 (ldO (A 0) 2044 (25 + x5)) fun (v3 : Int32) =>
      ob1 (if v3 = u1 then (ob1 (ldO (A 0) 2044 (65 + x5)) fun (v6 : Int32) =>
          if v6 = 0 then ((some 1 : Option (Int32))) else ((some 0 : Option (Int32)))) else ((some 0 : Option (Int32)))) fun (v4 : Int32) =>
      ob1 (if v4 = 0 then ((some 0 : Option (Int32))) else ((some ((1 : Int32) <<< (x5 &&& 31)) : Option (Int32)))) fun (v8 : Int32) =>
      ob1 (if v4 = 0 then ((some 0 : Option (Int32))) else ((some 1 : Option (Int32)))) fun (v10 : Int32) =>
      m_keeps_L33 I A u1 u2 n (x3 ||| v8) (x4 + v10) (x5 + 1))
set_option maxRecDepth 100000 in
set_option maxHeartbeats 4000000 in
theorem m_keeps_L33_w {p : Program} {l : Launch} {e : Env} {R0 : Room} {s : State} {m : MethodId} {args : Array Value} {below : List Frame} {meth : Method} {c : Code} {cells slots : Nat} {Q : State → Prop} {D : dd_} {ad : Nat → Nat} (hx : p.tables.exec = Jvm.exec) (hb : c.code = cX3_keeps) (hml : c.maxLocals = 7) (hown : s.vm.findClass RX3 = some m.cls) (hts : ∀ w ∈ lw_all, w.before args s = true) (hK : Kx D s) (hRf : 3 ≤ R0.frames) (hRl : 65 ≤ R0.locals) (hcs : cells ≤ R0.cells ∧ slots ≤ R0.slots) {H : Heap} {locs : List Loc} (I : Nat → Int32) (A : Nat → Nat → Int32) (u1 : Int32) (u2 : Int32) (hW : WH D mS ad I A nR nG H) (y3 : Int32) (y4 : Int32) (y5 : Int32) (KX : ∀ (ls : Array Slot), lv_has ls 7 [(0, .ref (ad 99)), (1, .int u1), (2, .int u2), (3, .int y3), (4, .int y4)] → W p l e R0 s m args below meth c H locs cells slots Q (F0 m 116 ls [])) : ∀ (n : Nat) (x3 : Int32) (x4 : Int32) (x5 : Int32) (ls : Array Slot), m_keeps_L33 I A u1 u2 n x3 x4 x5 = some (y3, y4, y5) → lv_has ls 7 [(0, .ref (ad 99)), (1, .int u1), (2, .int u2), (3, .int x3), (4, .int x4), (5, .int x5)] → W p l e R0 s m args below meth c H locs cells slots Q (F0 m 33 ls []) := by
  intro n
  induction n with
  | zero =>
    intro x3 x4 x5 ls hf
    exact nomatch (show (none : Option (Int32 × Int32 × Int32)) = some (y3, y4, y5) from hf)
  | succ n ih =>
    intro x3 x4 x5 ls hf hl
    have hf : (ob1 (ldO (A 0) 2044 7) fun (v1 : Int32) =>
        if v1 ≤ x5 then (some (x3, x4, x5)) else (ob1 (ldO (A 0) 2044 (25 + x5)) fun (v3 : Int32) =>
          ob1 (if v3 = u1 then (ob1 (ldO (A 0) 2044 (65 + x5)) fun (v6 : Int32) =>
              if v6 = 0 then ((some 1 : Option (Int32))) else ((some 0 : Option (Int32)))) else ((some 0 : Option (Int32)))) fun (v4 : Int32) =>
          ob1 (if v4 = 0 then ((some 0 : Option (Int32))) else ((some ((1 : Int32) <<< (x5 &&& 31)) : Option (Int32)))) fun (v8 : Int32) =>
          ob1 (if v4 = 0 then ((some 0 : Option (Int32))) else ((some 1 : Option (Int32)))) fun (v10 : Int32) =>
          m_keeps_L33 I A u1 u2 n (x3 ||| v8) (x4 + v10) (x5 + 1))) = some (y3, y4, y5) := hf
    refine lv_iload hx hb dX3_keeps_33 (lv_at hl 5 rfl) ?_
    refine lv_aload_n hx hb dX3_keeps_35 rfl (lv_at hl 0 rfl) ?_
    refine g_get (v := .ref (ad 0)) hx hb hts hown hK hW mO in_X3 rfl 0 (by decide) q1212 rfl rfl dX3_keeps_36 ?_
    refine lv_bipush (v := 7) hx hb dX3_keeps_39 (by decide) ?_
    obtain ⟨v1, hv1, hf⟩ := ob1_e hf
    refine g_iald hx hb hK hW mA0 hv1 dX3_keeps_41 ?_
    refine lv_icmp_ge (tgt := 116) hx hb dX3_keeps_42 (by decide) (fun c2 => ?_) (fun c2 => ?_)
    · rw [if_pos c2] at hf
      obtain ⟨rfl, rfl, rfl⟩ := so3 hf
      exact KX ls (lv_sub hl [0, 1, 2, 3, 4] rfl)
    · rw [if_neg c2] at hf
      refine lv_aload_n hx hb dX3_keeps_45 rfl (lv_at hl 0 rfl) ?_
      refine g_get (v := .ref (ad 0)) hx hb hts hown hK hW mO in_X3 rfl 0 (by decide) q1212 rfl rfl dX3_keeps_46 ?_
      refine lv_bipush (v := 25) hx hb dX3_keeps_49 (by decide) ?_
      refine lv_iload hx hb dX3_keeps_51 (lv_at hl 5 rfl) ?_
      refine lv_iadd hx hb dX3_keeps_53 ?_
      obtain ⟨v3, hv3, hf⟩ := ob1_e hf
      refine g_iald hx hb hK hW mA0 hv3 dX3_keeps_54 ?_
      refine lv_iload_n hx hb dX3_keeps_55 rfl (lv_at hl 1 rfl) ?_
      obtain ⟨v4, hm4, hf⟩ := ob1_e hf
      refine w_cutL (nL := 7) (L := [(0, .ref (ad 99)), (1, .int u1), (2, .int u2), (3, .int x3), (4, .int x4), (5, .int x5)]) (pcj := 77) (st := [.int v4]) (fun ls hl => ?_) (fun K4 => ?_)
      · refine lv_istore (lv' := [(6, .int v4), (0, .ref (ad 99)), (1, .int u1), (2, .int u2), (3, .int x3), (4, .int x4), (5, .int x5)]) hx hb dX3_keeps_77 hl (by decide) rfl (fun ls hl => ?_)
        refine lv_iload_n hx hb dX3_keeps_79 rfl (lv_at hl 4 rfl) ?_
        refine lv_iload hx hb dX3_keeps_80 (lv_at hl 0 rfl) ?_
        obtain ⟨v8, hm8, hf⟩ := ob1_e hf
        refine w_cutL (nL := 7) (L := [(0, .ref (ad 99)), (1, .int u1), (2, .int u2), (4, .int x4), (5, .int x5), (6, .int v4)]) (pcj := 93) (st := [.int v8, .int x3]) (fun ls hl => ?_) (fun K8 => ?_)
        · refine lv_ior hx hb dX3_keeps_93 ?_
          refine lv_istore_n (lv' := [(3, .int (x3 ||| v8)), (0, .ref (ad 99)), (1, .int u1), (2, .int u2), (4, .int x4), (5, .int x5), (6, .int v4)]) hx hb dX3_keeps_94 rfl hl (by decide) rfl (fun ls hl => ?_)
          refine lv_iload hx hb dX3_keeps_95 (lv_at hl 4 rfl) ?_
          refine lv_iload hx hb dX3_keeps_97 (lv_at hl 6 rfl) ?_
          obtain ⟨v10, hm10, hf⟩ := ob1_e hf
          refine w_cutL (nL := 7) (L := [(0, .ref (ad 99)), (1, .int u1), (2, .int u2), (3, .int (x3 ||| v8)), (5, .int x5)]) (pcj := 107) (st := [.int v10, .int x4]) (fun ls hl => ?_) (fun K10 => ?_)
          · refine lv_iadd hx hb dX3_keeps_107 ?_
            refine lv_istore (lv' := [(4, .int (x4 + v10)), (0, .ref (ad 99)), (1, .int u1), (2, .int u2), (3, .int (x3 ||| v8)), (5, .int x5)]) hx hb dX3_keeps_108 hl (by decide) rfl (fun ls hl => ?_)
            refine lv_iinc (v := x5 + 1) (lv' := [(5, .int (x5 + 1)), (4, .int (x4 + v10)), (0, .ref (ad 99)), (1, .int u1), (2, .int u2), (3, .int (x3 ||| v8))]) hx hb dX3_keeps_110 hl (k := 5) rfl (by rfl) (by decide) rfl (fun ls hl => ?_)
            refine lv_goto (tgt := 33) hx hb dX3_keeps_113 (by decide) ?_
            exact ih (x3 ||| v8) (x4 + v10) (x5 + 1) ls hf (lv_sub hl [2, 3, 4, 5, 1, 0] rfl)
          · refine lv_if_eq (tgt := 106) hx hb dX3_keeps_99 (by decide) (fun c11 => ?_) (fun c11 => ?_)
            · rw [if_pos c11] at hm10
              refine lv_iconst (v := 0) hx hb dX3_keeps_106 (by decide) ?_
              obtain rfl := so1 hm10
              exact K10 ls (lv_sub hl [1, 2, 3, 0, 5] rfl)
            · rw [if_neg c11] at hm10
              refine lv_iconst (v := 1) hx hb dX3_keeps_102 (by decide) ?_
              refine lv_goto (tgt := 107) hx hb dX3_keeps_103 (by decide) ?_
              obtain rfl := so1 hm10
              exact K10 ls (lv_sub hl [1, 2, 3, 0, 5] rfl)
        · refine lv_if_eq (tgt := 92) hx hb dX3_keeps_82 (by decide) (fun c9 => ?_) (fun c9 => ?_)
          · rw [if_pos c9] at hm8
            refine lv_iconst (v := 0) hx hb dX3_keeps_92 (by decide) ?_
            obtain rfl := so1 hm8
            exact K8 ls (lv_sub hl [1, 2, 3, 5, 6, 0] rfl)
          · rw [if_neg c9] at hm8
            refine lv_iconst (v := 1) hx hb dX3_keeps_85 (by decide) ?_
            refine lv_iload hx hb dX3_keeps_86 (lv_at hl 6 rfl) ?_
            refine lv_ishl hx hb dX3_keeps_88 ?_
            refine lv_goto (tgt := 93) hx hb dX3_keeps_89 (by decide) ?_
            obtain rfl := so1 hm8
            exact K8 ls (lv_sub hl [1, 2, 3, 5, 6, 0] rfl)
      · refine lv_icmp_ne (tgt := 76) hx hb dX3_keeps_56 (by decide) (fun c5 => ?_) (fun c5 => ?_)
        · rw [if_neg c5] at hm4
          refine lv_iconst (v := 0) hx hb dX3_keeps_76 (by decide) ?_
          obtain rfl := so1 hm4
          exact K4 ls (lv_sub hl [0, 1, 2, 3, 4, 5] rfl)
        · rw [if_pos c5] at hm4
          refine lv_aload_n hx hb dX3_keeps_59 rfl (lv_at hl 0 rfl) ?_
          refine g_get (v := .ref (ad 0)) hx hb hts hown hK hW mO in_X3 rfl 0 (by decide) q1212 rfl rfl dX3_keeps_60 ?_
          refine lv_bipush (v := 65) hx hb dX3_keeps_63 (by decide) ?_
          refine lv_iload hx hb dX3_keeps_65 (lv_at hl 5 rfl) ?_
          refine lv_iadd hx hb dX3_keeps_67 ?_
          obtain ⟨v6, hv6, hm4⟩ := ob1_e hm4
          refine g_iald hx hb hK hW mA0 hv6 dX3_keeps_68 ?_
          refine lv_if_ne (tgt := 76) hx hb dX3_keeps_69 (by decide) (fun c7 => ?_) (fun c7 => ?_)
          · rw [if_neg c7] at hm4
            refine lv_iconst (v := 0) hx hb dX3_keeps_76 (by decide) ?_
            obtain rfl := so1 hm4
            exact K4 ls (lv_sub hl [0, 1, 2, 3, 4, 5] rfl)
          · rw [if_pos c7] at hm4
            refine lv_iconst (v := 1) hx hb dX3_keeps_72 (by decide) ?_
            refine lv_goto (tgt := 77) hx hb dX3_keeps_73 (by decide) ?_
            obtain rfl := so1 hm4
            exact K4 ls (lv_sub hl [0, 1, 2, 3, 4, 5] rfl)
def m_keeps (I : Nat → Int32) (A : Nat → Nat → Int32) (a0 : Int32) (a1 : Int32) : Option (Int32 × (Nat → Int32) × (Nat → Nat → Int32)) :=
  ob1 (m_isPerson I A a0) fun (v1 : Int32) =>
  if v1 = 0 then (some ((-1000001), I, A)) else (ob1 (m_in a1.toInt64 (-1) 7) fun (v3 : Int32) =>
    if v3 = 0 then (some ((-1000001), I, A)) else (ob3 (m_keeps_L33 I A a0 a1 NF 0 0 0) fun (v5 : Int32) (v6 : Int32) (v7 : Int32) =>
      ob3 (m_findOrder I A a0 v5 v6) fun (v8 : Int32) (I9 : Nat → Int32) (A10 : Nat → Nat → Int32) =>
      ob1 (if 0 ≤ a1 then (if v6 ≤ a1 then ((some (-1000000) : Option (Int32))) else (ob1 (ldO (A10 16) 8 a1) fun (v14 : Int32) =>
            (some v14 : Option (Int32)))) else ((some v8 : Option (Int32)))) fun (v11 : Int32) =>
      some (v11, I9, A10)))
set_option maxRecDepth 100000 in
set_option maxHeartbeats 4000000 in
theorem m_keeps_met (l : Launch) (D : dd_) (ad : Nat → Nat) (hI : Inj mS ad) (I : Nat → Int32) (A : Nat → Nat → Int32) (a0 : Int32) (a1 : Int32) (r : Int32) (I1 : (Nat → Int32)) (A1 : (Nat → Nat → Int32)) (hf : m_keeps I A a0 a1 = some (r, I1, A1)) : Met l yX3_keeps (ws_ yX3_keeps cX3_keeps 7 (some .int)) ({ frames := 3, cells := 0, slots := 0, locals := 65 }) (PcW D mS ad I A nR nG [.ref (ad 99), .int a0, .int a1]) (QcW D mS ad I1 A1 nR nG (some (.int r))) 0 0 (frS mS ad) := by
  refine Met.ofW (cc := cX3_keeps) (maxL := 7) (ret := (some .int)) (by decide) rfl ?_
  intro p e s m args below meth c s₁ B hml hv
  obtain ⟨rfl, hK, hW⟩ := hv
  have hx := B.exec
  have hb := B.bytes
  have hr := B.returns
  have hts := atoms_spec (ws := (ws_ yX3_keeps cX3_keeps 7 (some .int))) B.pre
  have hts : ∀ w ∈ lw_all, w.before _ s = true := fun w h => hts w (List.mem_cons_of_mem _ h)
  have hown : s.vm.findClass RX3 = some m.cls := findClass_of_methodNamed B.named
  have hlocks := B.notSynchronized
  have hRf : 3 ≤ (headSpec (ws_ yX3_keeps cX3_keeps 7 (some .int)) ({ frames := 3, cells := 0, slots := 0, locals := 65 })).room.frames := Nat.le_refl _
  have hRl : 65 ≤ (headSpec (ws_ yX3_keeps cX3_keeps 7 (some .int)) ({ frames := 3, cells := 0, slots := 0, locals := 65 })).room.locals := Nat.le_refl _
  have hcs : 0 ≤ (headSpec (ws_ yX3_keeps cX3_keeps 7 (some .int)) ({ frames := 3, cells := 0, slots := 0, locals := 65 })).room.cells ∧ 0 ≤ (headSpec (ws_ yX3_keeps cX3_keeps 7 (some .int)) ({ frames := 3, cells := 0, slots := 0, locals := 65 })).room.slots := ⟨Nat.zero_le _, Nat.zero_le _⟩
  have hA : ∀ i ∈ idxS mS, frS mS ad (ad i) := fun i hi => ⟨i, hi, rfl⟩
  have hS : va_S (frS mS ad) s.heap s.heap [] := va_S.rf
  have hl := lv_entry ([.ref (ad 99), .int a0, .int a1]) (n := 7) (Nat.le_of_ble_eq_true rfl)
  rw [lg_entry_eq]
  generalize (lg_sl ([.ref (ad 99), .int a0, .int a1]) ++ List.replicate (7 - (lg_sl ([.ref (ad 99), .int a0, .int a1])).length) Slot.unset).toArray = ls at hl ⊢
  have hl : lv_has ls 7 [(0, .ref (ad 99)), (1, .int a0), (2, .int a1)] := hl
  have hf : (ob1 (m_isPerson I A a0) fun (v1 : Int32) =>
    if v1 = 0 then (some ((-1000001), I, A)) else (ob1 (m_in a1.toInt64 (-1) 7) fun (v3 : Int32) =>
      if v3 = 0 then (some ((-1000001), I, A)) else (ob3 (m_keeps_L33 I A a0 a1 NF 0 0 0) fun (v5 : Int32) (v6 : Int32) (v7 : Int32) =>
        ob3 (m_findOrder I A a0 v5 v6) fun (v8 : Int32) (I9 : Nat → Int32) (A10 : Nat → Nat → Int32) =>
        ob1 (if 0 ≤ a1 then (if v6 ≤ a1 then ((some (-1000000) : Option (Int32))) else (ob1 (ldO (A10 16) 8 a1) fun (v14 : Int32) =>
              (some v14 : Option (Int32)))) else ((some v8 : Option (Int32)))) fun (v11 : Int32) =>
        some (v11, I9, A10)))) = some (r, I1, A1) := hf
  refine lv_aload_n hx hb dX3_keeps_0 rfl (lv_at hl 0 rfl) ?_
  refine lv_iload_n hx hb dX3_keeps_1 rfl (lv_at hl 1 rfl) ?_
  obtain ⟨v1, h1, hf⟩ := ob1_e hf
  refine g_vR (ov := some (.int v1)) (D := D) (Sc := mS) (adc := ad) (Ic := I) (Ac := A) (Rc := nR) (Gc := nG) (As := [.int a0]) (rest := []) (b := ad 99) (C := RX3) ⟨hx, hb, hml, hown, hts⟩ (m_isPerson_met l D ad I A a0 v1 h1) (g_cwV 1 hts (lw_V q1396 q1398 qs46 q82 q1399) rfl rfl m_isPerson_ds ⟨Nat.le_trans (Nat.le_of_ble_eq_true rfl) hRf, Nat.le_trans (Nat.le_of_ble_eq_true rfl) hRl⟩) (g_recv hK hW mO rfl) hK hW hcs rfl hl.1 rfl (Nat.le_of_ble_eq_true rfl) dX3_keeps_2 ?_
  refine lv_if_eq (tgt := 22) hx hb dX3_keeps_5 (by decide) (fun c2 => ?_) (fun c2 => ?_)
  · rw [if_pos c2] at hf
    refine lv_ldc (v := (-1000001)) hx hb hown (hts _ q1298) dX3_keeps_22 ?_
    obtain ⟨rfl, rfl, rfl⟩ := so3 hf
    exact W.iret hx hb hr (fun t ht _ => ⟨rfl, by rw [ht]; exact hW, hS.F ht⟩) hS.2.2 dX3_keeps_24
  · rw [if_neg c2] at hf
    refine lv_iload_n hx hb dX3_keeps_8 rfl (lv_at hl 2 rfl) ?_
    refine lv_i2l (v := a1.toInt64) hx hb dX3_keeps_9 rfl ?_
    refine lv_ldc2 (v := (-1)) hx hb hown (hts _ q1481) dX3_keeps_10 ?_
    refine lv_ldc2 (v := 7) hx hb hown (hts _ q1293) dX3_keeps_13 ?_
    obtain ⟨v3, h3, hf⟩ := ob1_e hf
    refine g_sR (ov := some (.int v3)) (D := D) (Sc := nS) (adc := ad) (Ic := (fun _ => 0)) (Ac := (fun _ _ => 0)) (Rc := nR) (Gc := nG) (As := [.long a1.toInt64, .long (-1), .long 7]) (rest := []) ⟨hx, hb, hml, hown, hts⟩ (m_in_met l D ad a1.toInt64 (-1) 7 v3 h3) (va_cwS 3 hts (lw_S q1294 q1295 q82 q1296) rfl rfl rfl m_in_ds.2 ⟨Nat.le_trans (Nat.le_of_ble_eq_true rfl) hRf, Nat.le_trans (Nat.le_of_ble_eq_true rfl) hRl⟩) hK WH_nil hcs rfl hl.1 rfl (Nat.le_of_ble_eq_true rfl) dX3_keeps_16 ?_
    refine lv_if_ne (tgt := 25) hx hb dX3_keeps_19 (by decide) (fun c4 => ?_) (fun c4 => ?_)
    · rw [if_neg c4] at hf
      refine lv_iconst (v := 0) hx hb dX3_keeps_25 (by decide) ?_
      refine lv_istore_n (lv' := [(3, .int 0), (0, .ref (ad 99)), (1, .int a0), (2, .int a1)]) hx hb dX3_keeps_26 rfl hl (by decide) rfl (fun ls hl => ?_)
      refine lv_iconst (v := 0) hx hb dX3_keeps_27 (by decide) ?_
      refine lv_istore (lv' := [(4, .int 0), (3, .int 0), (0, .ref (ad 99)), (1, .int a0), (2, .int a1)]) hx hb dX3_keeps_28 hl (by decide) rfl (fun ls hl => ?_)
      refine lv_iconst (v := 0) hx hb dX3_keeps_30 (by decide) ?_
      refine lv_istore (lv' := [(5, .int 0), (4, .int 0), (3, .int 0), (0, .ref (ad 99)), (1, .int a0), (2, .int a1)]) hx hb dX3_keeps_31 hl (by decide) rfl (fun ls hl => ?_)
      obtain ⟨v5, v6, v7, hq7, hf⟩ := ob3_e hf
      refine m_keeps_L33_w hx hb hml hown hts hK hRf hRl hcs I A a0 a1 hW v5 v6 v7 (fun ls hl => ?_) NF 0 0 0 ls hq7 (lv_sub hl [3, 4, 5, 2, 1, 0] rfl)
      refine lv_aload_n hx hb dX3_keeps_116 rfl (lv_at hl 0 rfl) ?_
      refine lv_iload_n hx hb dX3_keeps_117 rfl (lv_at hl 1 rfl) ?_
      refine lv_iload_n hx hb dX3_keeps_118 rfl (lv_at hl 3 rfl) ?_
      refine lv_iload hx hb dX3_keeps_119 (lv_at hl 4 rfl) ?_
      obtain ⟨v8, I9, A10, h10, hf⟩ := ob3_e hf
      refine g_vW (ov := some (.int v8)) (D := D) (Sc := mS) (adc := ad) (Ic := I) (Ac := A) (Rc := nR) (Gc := nG) (As := [.int a0, .int v5, .int v6]) (rest := []) (Ic1 := I9) (Ac1 := A10) (Rc1 := nR) (Gc1 := nG) (b := ad 99) (C := RX3) ⟨hx, hb, hml, hown, hts⟩ (m_findOrder_met l D ad hI I A a0 v5 v6 v8 I9 A10 h10) (g_cwV 3 hts (lw_V q1482 q1484 qs56 q82 q1485) rfl rfl m_findOrder_ds ⟨Nat.le_trans (Nat.le_of_ble_eq_true rfl) hRf, Nat.le_trans (Nat.le_of_ble_eq_true rfl) hRl⟩) (g_recv hK hW mO rfl) hK hW hS hA hcs rfl hl.1 rfl (Nat.le_of_ble_eq_true rfl) dX3_keeps_121 (fun H locs hW _ hS => ?_)
      refine lv_istore (lv' := [(5, .int v8), (0, .ref (ad 99)), (1, .int a0), (2, .int a1), (3, .int v5), (4, .int v6)]) hx hb dX3_keeps_124 hl (by decide) rfl (fun ls hl => ?_)
      refine lv_iload_n hx hb dX3_keeps_126 rfl (lv_at hl 3 rfl) ?_
      obtain ⟨v11, hm11, hf⟩ := ob1_e hf
      refine w_cutL (nL := 7) (L := []) (pcj := 152) (st := [.int v11]) (fun ls hl => ?_) (fun K11 => ?_)
      · obtain ⟨rfl, rfl, rfl⟩ := so3 hf
        exact W.iret hx hb hr (fun t ht _ => ⟨rfl, by rw [ht]; exact hW, hS.F ht⟩) hS.2.2 dX3_keeps_152
      · refine lv_if_ge (tgt := 135) hx hb dX3_keeps_127 (by decide) (fun c12 => ?_) (fun c12 => ?_)
        · rw [if_pos c12] at hm11
          refine lv_iload_n hx hb dX3_keeps_135 rfl (lv_at hl 3 rfl) ?_
          refine lv_iload hx hb dX3_keeps_136 (lv_at hl 5 rfl) ?_
          refine lv_icmp_ge (tgt := 150) hx hb dX3_keeps_138 (by decide) (fun c13 => ?_) (fun c13 => ?_)
          · rw [if_pos c13] at hm11
            refine lv_ldc (v := (-1000000)) hx hb hown (hts _ q1492) dX3_keeps_150 ?_
            obtain rfl := so1 hm11
            exact K11 ls (lv_sub hl [] rfl)
          · rw [if_neg c13] at hm11
            refine lv_aload_n hx hb dX3_keeps_141 rfl (lv_at hl 1 rfl) ?_
            refine g_get (v := .ref (ad 16)) hx hb hts hown hK hW mO in_X3 rfl 16 (by decide) q1228 rfl rfl dX3_keeps_142 ?_
            refine lv_iload_n hx hb dX3_keeps_145 rfl (lv_at hl 3 rfl) ?_
            obtain ⟨v14, hv14, hm11⟩ := ob1_e hm11
            refine g_iald hx hb hK hW mA16 hv14 dX3_keeps_146 ?_
            refine lv_goto (tgt := 152) hx hb dX3_keeps_147 (by decide) ?_
            obtain rfl := so1 hm11
            exact K11 ls (lv_sub hl [] rfl)
        · rw [if_neg c12] at hm11
          refine lv_iload hx hb dX3_keeps_130 (lv_at hl 0 rfl) ?_
          refine lv_goto (tgt := 152) hx hb dX3_keeps_132 (by decide) ?_
          obtain rfl := so1 hm11
          exact K11 ls (lv_sub hl [] rfl)
    · rw [if_pos c4] at hf
      refine lv_ldc (v := (-1000001)) hx hb hown (hts _ q1298) dX3_keeps_22 ?_
      obtain ⟨rfl, rfl, rfl⟩ := so3 hf
      exact W.iret hx hb hr (fun t ht _ => ⟨rfl, by rw [ht]; exact hW, hS.F ht⟩) hS.2.2 dX3_keeps_24
theorem m_keeps_ds : yX3_keeps.cls = RX3 ∧ yX3_keeps.cls ≠ "java/lang/invoke/MethodHandle" ∧ yX3_keeps.cls ≠ "java/lang/invoke/VarHandle" ∧ (parseMethodDescriptor yX3_keeps.desc).map (fun d => d.parameters.length) = some 2 := by decide +kernel
/-! greatest -/
def m_greatest_L5 (I : Nat → Int32) (A : Nat → Nat → Int32) : Nat → Int32 → Int32 → Option (Int32 × Int32)
  | 0, _, _ => none
  | n + 1, x1, x2 =>
    ob1 (ldO (A 0) 2044 6) fun (v1 : Int32) =>
    if v1 ≤ x2 then (some (x1, x2)) else (ob1 (m_loadOf I A x2) fun (v3 : Int32) =>
      ob1 (ldO (A 0) 2044 (15 + x2)) fun (v4 : Int32) =>
      ob1 (if (v3 - v4) ≤ x1 then ((some x1 : Option (Int32))) else ((some (v3 - v4) : Option (Int32)))) fun (v5 : Int32) =>
      m_greatest_L5 I A n v5 (x2 + 1))
set_option maxRecDepth 100000 in
set_option maxHeartbeats 4000000 in
theorem m_greatest_L5_w {p : Program} {l : Launch} {e : Env} {R0 : Room} {s : State} {m : MethodId} {args : Array Value} {below : List Frame} {meth : Method} {c : Code} {cells slots : Nat} {Q : State → Prop} {D : dd_} {ad : Nat → Nat} (hx : p.tables.exec = Jvm.exec) (hb : c.code = cX3_greatest) (hml : c.maxLocals = 4) (hown : s.vm.findClass RX3 = some m.cls) (hts : ∀ w ∈ lw_all, w.before args s = true) (hK : Kx D s) (hRf : 4 ≤ R0.frames) (hRl : 82 ≤ R0.locals) (hcs : cells ≤ R0.cells ∧ slots ≤ R0.slots) {H : Heap} {locs : List Loc} (I : Nat → Int32) (A : Nat → Nat → Int32) (hW : WH D mS ad I A nR nG H) (y1 : Int32) (y2 : Int32) (KX : ∀ (ls : Array Slot), lv_has ls 4 [(1, .int y1)] → W p l e R0 s m args below meth c H locs cells slots Q (F0 m 49 ls [])) : ∀ (n : Nat) (x1 : Int32) (x2 : Int32) (ls : Array Slot), m_greatest_L5 I A n x1 x2 = some (y1, y2) → lv_has ls 4 [(0, .ref (ad 99)), (1, .int x1), (2, .int x2)] → W p l e R0 s m args below meth c H locs cells slots Q (F0 m 5 ls []) := by
  intro n
  induction n with
  | zero =>
    intro x1 x2 ls hf
    exact nomatch (show (none : Option (Int32 × Int32)) = some (y1, y2) from hf)
  | succ n ih =>
    intro x1 x2 ls hf hl
    have hf : (ob1 (ldO (A 0) 2044 6) fun (v1 : Int32) =>
        if v1 ≤ x2 then (some (x1, x2)) else (ob1 (m_loadOf I A x2) fun (v3 : Int32) =>
          ob1 (ldO (A 0) 2044 (15 + x2)) fun (v4 : Int32) =>
          ob1 (if (v3 - v4) ≤ x1 then ((some x1 : Option (Int32))) else ((some (v3 - v4) : Option (Int32)))) fun (v5 : Int32) =>
          m_greatest_L5 I A n v5 (x2 + 1))) = some (y1, y2) := hf
    refine lv_iload_n hx hb dX3_greatest_5 rfl (lv_at hl 2 rfl) ?_
    refine lv_aload_n hx hb dX3_greatest_6 rfl (lv_at hl 0 rfl) ?_
    refine g_get (v := .ref (ad 0)) hx hb hts hown hK hW mO in_X3 rfl 0 (by decide) q1212 rfl rfl dX3_greatest_7 ?_
    refine lv_bipush (v := 6) hx hb dX3_greatest_10 (by decide) ?_
    obtain ⟨v1, hv1, hf⟩ := ob1_e hf
    refine g_iald hx hb hK hW mA0 hv1 dX3_greatest_12 ?_
    refine lv_icmp_ge (tgt := 49) hx hb dX3_greatest_13 (by decide) (fun c2 => ?_) (fun c2 => ?_)
    · rw [if_pos c2] at hf
      obtain ⟨rfl, rfl⟩ := so2 hf
      exact KX ls (lv_sub hl [1] rfl)
    · rw [if_neg c2] at hf
      refine lv_aload_n hx hb dX3_greatest_16 rfl (lv_at hl 0 rfl) ?_
      refine lv_iload_n hx hb dX3_greatest_17 rfl (lv_at hl 2 rfl) ?_
      obtain ⟨v3, h3, hf⟩ := ob1_e hf
      refine g_vR (ov := some (.int v3)) (D := D) (Sc := mS) (adc := ad) (Ic := I) (Ac := A) (Rc := nR) (Gc := nG) (As := [.int x2]) (rest := []) (b := ad 99) (C := RX3) ⟨hx, hb, hml, hown, hts⟩ (m_loadOf_met l D ad I A x2 v3 h3) (g_cwV 1 hts (lw_V q1409 q1411 qs49 q82 q1412) rfl rfl m_loadOf_ds ⟨Nat.le_trans (Nat.le_of_ble_eq_true rfl) hRf, Nat.le_trans (Nat.le_of_ble_eq_true rfl) hRl⟩) (g_recv hK hW mO rfl) hK hW hcs rfl hl.1 rfl (Nat.le_of_ble_eq_true rfl) dX3_greatest_18 ?_
      refine lv_aload_n hx hb dX3_greatest_21 rfl (lv_at hl 0 rfl) ?_
      refine g_get (v := .ref (ad 0)) hx hb hts hown hK hW mO in_X3 rfl 0 (by decide) q1212 rfl rfl dX3_greatest_22 ?_
      refine lv_bipush (v := 15) hx hb dX3_greatest_25 (by decide) ?_
      refine lv_iload_n hx hb dX3_greatest_27 rfl (lv_at hl 2 rfl) ?_
      refine lv_iadd hx hb dX3_greatest_28 ?_
      obtain ⟨v4, hv4, hf⟩ := ob1_e hf
      refine g_iald hx hb hK hW mA0 hv4 dX3_greatest_29 ?_
      refine lv_isub hx hb dX3_greatest_30 ?_
      refine lv_istore_n (lv' := [(3, .int (v3 - v4)), (0, .ref (ad 99)), (1, .int x1), (2, .int x2)]) hx hb dX3_greatest_31 rfl hl (by decide) rfl (fun ls hl => ?_)
      refine lv_iload_n hx hb dX3_greatest_32 rfl (lv_at hl 0 rfl) ?_
      refine lv_iload_n hx hb dX3_greatest_33 rfl (lv_at hl 2 rfl) ?_
      obtain ⟨v5, hm5, hf⟩ := ob1_e hf
      refine w_cutL (nL := 4) (L := [(0, .ref (ad 99)), (2, .int x2)]) (pcj := 42) (st := [.int v5]) (fun ls hl => ?_) (fun K5 => ?_)
      · refine lv_istore_n (lv' := [(1, .int v5), (0, .ref (ad 99)), (2, .int x2)]) hx hb dX3_greatest_42 rfl hl (by decide) rfl (fun ls hl => ?_)
        refine lv_iinc (v := x2 + 1) (lv' := [(2, .int (x2 + 1)), (1, .int v5), (0, .ref (ad 99))]) hx hb dX3_greatest_43 hl (k := 2) rfl (by rfl) (by decide) rfl (fun ls hl => ?_)
        refine lv_goto (tgt := 5) hx hb dX3_greatest_46 (by decide) ?_
        exact ih v5 (x2 + 1) ls hf (lv_sub hl [2, 1, 0] rfl)
      · refine lv_icmp_le (tgt := 41) hx hb dX3_greatest_34 (by decide) (fun c6 => ?_) (fun c6 => ?_)
        · rw [if_pos c6] at hm5
          refine lv_iload_n hx hb dX3_greatest_41 rfl (lv_at hl 2 rfl) ?_
          obtain rfl := so1 hm5
          exact K5 ls (lv_sub hl [1, 3] rfl)
        · rw [if_neg c6] at hm5
          refine lv_iload_n hx hb dX3_greatest_37 rfl (lv_at hl 0 rfl) ?_
          refine lv_goto (tgt := 42) hx hb dX3_greatest_38 (by decide) ?_
          obtain rfl := so1 hm5
          exact K5 ls (lv_sub hl [1, 3] rfl)
def m_greatest (I : Nat → Int32) (A : Nat → Nat → Int32) : Option (Int32) :=
  ob2 (m_greatest_L5 I A NF (-1000000000) 0) fun (v1 : Int32) (v2 : Int32) =>
  some v1
set_option maxRecDepth 100000 in
set_option maxHeartbeats 4000000 in
theorem m_greatest_met (l : Launch) (D : dd_) (ad : Nat → Nat) (I : Nat → Int32) (A : Nat → Nat → Int32) (r : Int32) (hf : m_greatest I A  = some r) : Met l yX3_greatest (ws_ yX3_greatest cX3_greatest 4 (some .int)) ({ frames := 4, cells := 0, slots := 0, locals := 82 }) (PcW D mS ad I A nR nG [.ref (ad 99)]) (QcR (some (.int r))) 0 0 (fun _ => False) := by
  refine Met.ofW (cc := cX3_greatest) (maxL := 4) (ret := (some .int)) (by decide) rfl ?_
  intro p e s m args below meth c s₁ B hml hv
  obtain ⟨rfl, hK, hW⟩ := hv
  have hx := B.exec
  have hb := B.bytes
  have hr := B.returns
  have hts := atoms_spec (ws := (ws_ yX3_greatest cX3_greatest 4 (some .int))) B.pre
  have hts : ∀ w ∈ lw_all, w.before _ s = true := fun w h => hts w (List.mem_cons_of_mem _ h)
  have hown : s.vm.findClass RX3 = some m.cls := findClass_of_methodNamed B.named
  have hlocks := B.notSynchronized
  have hRf : 4 ≤ (headSpec (ws_ yX3_greatest cX3_greatest 4 (some .int)) ({ frames := 4, cells := 0, slots := 0, locals := 82 })).room.frames := Nat.le_refl _
  have hRl : 82 ≤ (headSpec (ws_ yX3_greatest cX3_greatest 4 (some .int)) ({ frames := 4, cells := 0, slots := 0, locals := 82 })).room.locals := Nat.le_refl _
  have hcs : 0 ≤ (headSpec (ws_ yX3_greatest cX3_greatest 4 (some .int)) ({ frames := 4, cells := 0, slots := 0, locals := 82 })).room.cells ∧ 0 ≤ (headSpec (ws_ yX3_greatest cX3_greatest 4 (some .int)) ({ frames := 4, cells := 0, slots := 0, locals := 82 })).room.slots := ⟨Nat.zero_le _, Nat.zero_le _⟩
  have hl := lv_entry ([.ref (ad 99)]) (n := 4) (Nat.le_of_ble_eq_true rfl)
  rw [lg_entry_eq]
  generalize (lg_sl ([.ref (ad 99)]) ++ List.replicate (4 - (lg_sl ([.ref (ad 99)])).length) Slot.unset).toArray = ls at hl ⊢
  have hl : lv_has ls 4 [(0, .ref (ad 99))] := hl
  have hf : (ob2 (m_greatest_L5 I A NF (-1000000000) 0) fun (v1 : Int32) (v2 : Int32) =>
    some v1) = some r := hf
  refine lv_ldc (v := (-1000000000)) hx hb hown (hts _ q1501) dX3_greatest_0 ?_
  refine lv_istore_n (lv' := [(1, .int (-1000000000)), (0, .ref (ad 99))]) hx hb dX3_greatest_2 rfl hl (by decide) rfl (fun ls hl => ?_)
  refine lv_iconst (v := 0) hx hb dX3_greatest_3 (by decide) ?_
  refine lv_istore_n (lv' := [(2, .int 0), (1, .int (-1000000000)), (0, .ref (ad 99))]) hx hb dX3_greatest_4 rfl hl (by decide) rfl (fun ls hl => ?_)
  obtain ⟨v1, v2, hq2, hf⟩ := ob2_e hf
  refine m_greatest_L5_w hx hb hml hown hts hK hRf hRl hcs I A hW v1 v2 (fun ls hl => ?_) NF (-1000000000) 0 ls hq2 (lv_sub hl [2, 1, 0] rfl)
  refine lv_iload_n hx hb dX3_greatest_49 rfl (lv_at hl 0 rfl) ?_
  obtain rfl := so1 hf
  exact W.iret hx hb hr (fun t ht _ => ⟨rfl, ht⟩) (fun q hq => by cases hq) dX3_greatest_50
theorem m_greatest_ds : yX3_greatest.cls = RX3 ∧ yX3_greatest.cls ≠ "java/lang/invoke/MethodHandle" ∧ yX3_greatest.cls ≠ "java/lang/invoke/VarHandle" ∧ (parseMethodDescriptor yX3_greatest.desc).map (fun d => d.parameters.length) = some 0 := by decide +kernel
/-! frees -/
def m_frees_L61 (u1 : Int32) (u4 : Int32) (u5 : Int32) : Nat → (Nat → Int32) → (Nat → Nat → Int32) → Int32 → Int32 → Int32 → Option ((Nat → Int32) × (Nat → Nat → Int32) × Int32 × Int32 × Int32)
  | 0, _, _, _, _, _ => none
  | n + 1, I, A, x2, x3, x6 =>
    ob1 (ldO (A 0) 2044 6) fun (v1 : Int32) =>
    if v1 ≤ x6 then (some (I, A, x2, x3, x6)) else (ob1 (ldO (A 0) 2044 (65 + u4)) fun (v3 : Int32) =>
      if v3 = 0 then (ob4 (if x6 = u5 then ((some (x2, x3, I, A) : Option (Int32 × Int32 × (Nat → Int32) × (Nat → Nat → Int32)))) else (ob1 (ldO (A 0) 2044 (33 + u4)) fun (v10 : Int32) =>
            if x6 = v10 then ((some (x2, x3, I, A) : Option (Int32 × Int32 × (Nat → Int32) × (Nat → Nat → Int32)))) else (ob1 (stO (A 0) 2044 (25 + u4) x6) fun (f12 : Nat → Int32) =>
              ob1 (m_greatest I (va_up A 0 f12) ) fun (v13 : Int32) =>
              ob1 (if x3 ≤ v13 then ((some x2 : Option (Int32))) else ((some ((8 * u4) + x6) : Option (Int32)))) fun (v14 : Int32) =>
              ob1 (if x3 ≤ v13 then ((some x3 : Option (Int32))) else ((some v13 : Option (Int32)))) fun (v16 : Int32) =>
              ob1 (stO ((va_up A 0 f12) 0) 2044 (25 + u4) u5) fun (f18 : Nat → Int32) =>
              (some (v14, v16, I, va_up (va_up A 0 f12) 0 f18) : Option (Int32 × Int32 × (Nat → Int32) × (Nat → Nat → Int32)))))) fun (v5 : Int32) (v6 : Int32) (I7 : Nat → Int32) (A8 : Nat → Nat → Int32) =>
        m_frees_L61 u1 u4 u5 n I7 A8 v5 v6 (x6 + 1)) else (some (I, A, x2, x3, x6)))
set_option maxRecDepth 100000 in
set_option maxHeartbeats 4000000 in
theorem m_frees_L61_w {p : Program} {l : Launch} {e : Env} {R0 : Room} {s : State} {m : MethodId} {args : Array Value} {below : List Frame} {meth : Method} {c : Code} {cells slots : Nat} {Q : State → Prop} {D : dd_} {ad : Nat → Nat} (hx : p.tables.exec = Jvm.exec) (hb : c.code = cX3_frees) (hml : c.maxLocals = 8) (hown : s.vm.findClass RX3 = some m.cls) (hts : ∀ w ∈ lw_all, w.before args s = true) (hK : Kx D s) (hRf : 5 ≤ R0.frames) (hRl : 105 ≤ R0.locals) (hcs : cells ≤ R0.cells ∧ slots ≤ R0.slots) (hI : Inj mS ad) (u1 : Int32) (u4 : Int32) (u5 : Int32) (I9 : (Nat → Int32)) (A9 : (Nat → Nat → Int32)) (y2 : Int32) (y3 : Int32) (y6 : Int32) (KX : ∀ (H : Heap) (locs : List Loc) (ls : Array Slot), WH D mS ad I9 A9 nR nG H → va_S (frS mS ad) s.heap H locs → lv_has ls 8 [(0, .ref (ad 99)), (1, .int u1), (2, .int y2), (3, .int y3), (4, .int u4)] → W p l e R0 s m args below meth c H locs cells slots Q (F0 m 176 ls [])) : ∀ (n : Nat) (I : (Nat → Int32)) (A : (Nat → Nat → Int32)) (x2 : Int32) (x3 : Int32) (x6 : Int32) (H : Heap) (locs : List Loc) (ls : Array Slot), m_frees_L61 u1 u4 u5 n I A x2 x3 x6 = some (I9, A9, y2, y3, y6) → WH D mS ad I A nR nG H → va_S (frS mS ad) s.heap H locs → lv_has ls 8 [(0, .ref (ad 99)), (1, .int u1), (2, .int x2), (3, .int x3), (4, .int u4), (5, .int u5), (6, .int x6)] → W p l e R0 s m args below meth c H locs cells slots Q (F0 m 61 ls []) := by
  intro n
  have hA : ∀ i ∈ idxS mS, frS mS ad (ad i) := fun i hi => ⟨i, hi, rfl⟩
  induction n with
  | zero =>
    intro I A x2 x3 x6 H locs ls hf
    exact nomatch (show (none : Option ((Nat → Int32) × (Nat → Nat → Int32) × Int32 × Int32 × Int32)) = some (I9, A9, y2, y3, y6) from hf)
  | succ n ih =>
    intro I A x2 x3 x6 H locs ls hf hW hS hl
    have hf : (ob1 (ldO (A 0) 2044 6) fun (v1 : Int32) =>
        if v1 ≤ x6 then (some (I, A, x2, x3, x6)) else (ob1 (ldO (A 0) 2044 (65 + u4)) fun (v3 : Int32) =>
          if v3 = 0 then (ob4 (if x6 = u5 then ((some (x2, x3, I, A) : Option (Int32 × Int32 × (Nat → Int32) × (Nat → Nat → Int32)))) else (ob1 (ldO (A 0) 2044 (33 + u4)) fun (v10 : Int32) =>
                if x6 = v10 then ((some (x2, x3, I, A) : Option (Int32 × Int32 × (Nat → Int32) × (Nat → Nat → Int32)))) else (ob1 (stO (A 0) 2044 (25 + u4) x6) fun (f12 : Nat → Int32) =>
                  ob1 (m_greatest I (va_up A 0 f12) ) fun (v13 : Int32) =>
                  ob1 (if x3 ≤ v13 then ((some x2 : Option (Int32))) else ((some ((8 * u4) + x6) : Option (Int32)))) fun (v14 : Int32) =>
                  ob1 (if x3 ≤ v13 then ((some x3 : Option (Int32))) else ((some v13 : Option (Int32)))) fun (v16 : Int32) =>
                  ob1 (stO ((va_up A 0 f12) 0) 2044 (25 + u4) u5) fun (f18 : Nat → Int32) =>
                  (some (v14, v16, I, va_up (va_up A 0 f12) 0 f18) : Option (Int32 × Int32 × (Nat → Int32) × (Nat → Nat → Int32)))))) fun (v5 : Int32) (v6 : Int32) (I7 : Nat → Int32) (A8 : Nat → Nat → Int32) =>
            m_frees_L61 u1 u4 u5 n I7 A8 v5 v6 (x6 + 1)) else (some (I, A, x2, x3, x6)))) = some (I9, A9, y2, y3, y6) := hf
    refine lv_iload hx hb dX3_frees_61 (lv_at hl 6 rfl) ?_
    refine lv_aload_n hx hb dX3_frees_63 rfl (lv_at hl 0 rfl) ?_
    refine g_get (v := .ref (ad 0)) hx hb hts hown hK hW mO in_X3 rfl 0 (by decide) q1212 rfl rfl dX3_frees_64 ?_
    refine lv_bipush (v := 6) hx hb dX3_frees_67 (by decide) ?_
    obtain ⟨v1, hv1, hf⟩ := ob1_e hf
    refine g_iald hx hb hK hW mA0 hv1 dX3_frees_69 ?_
    refine lv_icmp_ge (tgt := 176) hx hb dX3_frees_70 (by decide) (fun c2 => ?_) (fun c2 => ?_)
    · rw [if_pos c2] at hf
      obtain ⟨rfl, rfl, rfl, rfl, rfl⟩ := so5 hf
      exact KX _ _ ls hW hS (lv_sub hl [0, 1, 2, 3, 4] rfl)
    · rw [if_neg c2] at hf
      refine lv_aload_n hx hb dX3_frees_73 rfl (lv_at hl 0 rfl) ?_
      refine g_get (v := .ref (ad 0)) hx hb hts hown hK hW mO in_X3 rfl 0 (by decide) q1212 rfl rfl dX3_frees_74 ?_
      refine lv_bipush (v := 65) hx hb dX3_frees_77 (by decide) ?_
      refine lv_iload hx hb dX3_frees_79 (lv_at hl 4 rfl) ?_
      refine lv_iadd hx hb dX3_frees_81 ?_
      obtain ⟨v3, hv3, hf⟩ := ob1_e hf
      refine g_iald hx hb hK hW mA0 hv3 dX3_frees_82 ?_
      refine lv_if_ne (tgt := 176) hx hb dX3_frees_83 (by decide) (fun c4 => ?_) (fun c4 => ?_)
      · rw [if_neg c4] at hf
        obtain ⟨rfl, rfl, rfl, rfl, rfl⟩ := so5 hf
        exact KX _ _ ls hW hS (lv_sub hl [0, 1, 2, 3, 4] rfl)
      · rw [if_pos c4] at hf
        refine lv_iload hx hb dX3_frees_86 (lv_at hl 6 rfl) ?_
        refine lv_iload hx hb dX3_frees_88 (lv_at hl 5 rfl) ?_
        obtain ⟨v5, v6, I7, A8, hm8, hf⟩ := ob4_e hf
        refine w_cutH (A0 := frS mS ad) (H0 := s.heap) (X := WH D mS ad I7 A8 nR nG) (nL := 8) (L := [(0, .ref (ad 99)), (1, .int u1), (2, .int v5), (3, .int v6), (4, .int u4), (5, .int u5), (6, .int x6)]) (pcj := 170) (st := []) (fun H locs ls hW hS hl => ?_) (fun K8 => ?_)
        · refine lv_iinc (v := x6 + 1) (lv' := [(6, .int (x6 + 1)), (0, .ref (ad 99)), (1, .int u1), (2, .int v5), (3, .int v6), (4, .int u4), (5, .int u5)]) hx hb dX3_frees_170 hl (k := 6) rfl (by rfl) (by decide) rfl (fun ls hl => ?_)
          refine lv_goto (tgt := 61) hx hb dX3_frees_173 (by decide) ?_
          exact ih I7 A8 v5 v6 (x6 + 1) _ _ ls hf hW hS (lv_sub hl [1, 2, 3, 4, 5, 6, 0] rfl)
        · refine lv_icmp_eq (tgt := 170) hx hb dX3_frees_90 (by decide) (fun c9 => ?_) (fun c9 => ?_)
          · rw [if_pos c9] at hm8
            obtain ⟨rfl, rfl, rfl, rfl⟩ := so4 hm8
            exact K8 _ _ ls hW hS (lv_sub hl [0, 1, 2, 3, 4, 5, 6] rfl)
          · rw [if_neg c9] at hm8
            refine lv_iload hx hb dX3_frees_93 (lv_at hl 6 rfl) ?_
            refine lv_aload_n hx hb dX3_frees_95 rfl (lv_at hl 0 rfl) ?_
            refine g_get (v := .ref (ad 0)) hx hb hts hown hK hW mO in_X3 rfl 0 (by decide) q1212 rfl rfl dX3_frees_96 ?_
            refine lv_bipush (v := 33) hx hb dX3_frees_99 (by decide) ?_
            refine lv_iload hx hb dX3_frees_101 (lv_at hl 4 rfl) ?_
            refine lv_iadd hx hb dX3_frees_103 ?_
            obtain ⟨v10, hv10, hm8⟩ := ob1_e hm8
            refine g_iald hx hb hK hW mA0 hv10 dX3_frees_104 ?_
            refine lv_icmp_eq (tgt := 170) hx hb dX3_frees_105 (by decide) (fun c11 => ?_) (fun c11 => ?_)
            · rw [if_pos c11] at hm8
              obtain ⟨rfl, rfl, rfl, rfl⟩ := so4 hm8
              exact K8 _ _ ls hW hS (lv_sub hl [0, 1, 2, 3, 4, 5, 6] rfl)
            · rw [if_neg c11] at hm8
              refine lv_aload_n hx hb dX3_frees_108 rfl (lv_at hl 0 rfl) ?_
              refine g_get (v := .ref (ad 0)) hx hb hts hown hK hW mO in_X3 rfl 0 (by decide) q1212 rfl rfl dX3_frees_109 ?_
              refine lv_bipush (v := 25) hx hb dX3_frees_112 (by decide) ?_
              refine lv_iload hx hb dX3_frees_114 (lv_at hl 4 rfl) ?_
              refine lv_iadd hx hb dX3_frees_116 ?_
              refine lv_iload hx hb dX3_frees_117 (lv_at hl 6 rfl) ?_
              obtain ⟨f12, hf12, hm8⟩ := ob1_e hm8
              refine g_iast hx hb hK mwf hI hA hW hS mA0 hf12 dX3_frees_119 (fun H locs hW hS => ?_)
              refine lv_aload_n hx hb dX3_frees_120 rfl (lv_at hl 0 rfl) ?_
              obtain ⟨v13, h13, hm8⟩ := ob1_e hm8
              refine g_vR (ov := some (.int v13)) (D := D) (Sc := mS) (adc := ad) (Ic := I) (Ac := (va_up A 0 f12)) (Rc := nR) (Gc := nG) (As := []) (rest := []) (b := ad 99) (C := RX3) ⟨hx, hb, hml, hown, hts⟩ (m_greatest_met l D ad I (va_up A 0 f12)  v13 h13) (g_cwV 0 hts (lw_V q1497 q1499 qs57 q82 q1500) rfl rfl m_greatest_ds ⟨Nat.le_trans (Nat.le_of_ble_eq_true rfl) hRf, Nat.le_trans (Nat.le_of_ble_eq_true rfl) hRl⟩) (g_recv hK hW mO rfl) hK hW hcs rfl hl.1 rfl (Nat.le_of_ble_eq_true rfl) dX3_frees_121 ?_
              refine lv_istore (lv' := [(7, .int v13), (0, .ref (ad 99)), (1, .int u1), (2, .int x2), (3, .int x3), (4, .int u4), (5, .int u5), (6, .int x6)]) hx hb dX3_frees_124 hl (by decide) rfl (fun ls hl => ?_)
              refine lv_iload hx hb dX3_frees_126 (lv_at hl 0 rfl) ?_
              refine lv_iload_n hx hb dX3_frees_128 rfl (lv_at hl 4 rfl) ?_
              obtain ⟨v14, hm14, hm8⟩ := ob1_e hm8
              refine w_cutL (nL := 8) (L := [(0, .ref (ad 99)), (1, .int u1), (3, .int x3), (4, .int u4), (5, .int u5), (6, .int x6), (7, .int v13)]) (pcj := 144) (st := [.int v14]) (fun ls hl => ?_) (fun K14 => ?_)
              · refine lv_istore_n (lv' := [(2, .int v14), (0, .ref (ad 99)), (1, .int u1), (3, .int x3), (4, .int u4), (5, .int u5), (6, .int x6), (7, .int v13)]) hx hb dX3_frees_144 rfl hl (by decide) rfl (fun ls hl => ?_)
                refine lv_iload hx hb dX3_frees_145 (lv_at hl 7 rfl) ?_
                refine lv_iload_n hx hb dX3_frees_147 rfl (lv_at hl 3 rfl) ?_
                obtain ⟨v16, hm16, hm8⟩ := ob1_e hm8
                refine w_cutL (nL := 8) (L := [(0, .ref (ad 99)), (1, .int u1), (2, .int v14), (4, .int u4), (5, .int u5), (6, .int x6)]) (pcj := 157) (st := [.int v16]) (fun ls hl => ?_) (fun K16 => ?_)
                · refine lv_istore_n (lv' := [(3, .int v16), (0, .ref (ad 99)), (1, .int u1), (2, .int v14), (4, .int u4), (5, .int u5), (6, .int x6)]) hx hb dX3_frees_157 rfl hl (by decide) rfl (fun ls hl => ?_)
                  refine lv_aload_n hx hb dX3_frees_158 rfl (lv_at hl 1 rfl) ?_
                  refine g_get (v := .ref (ad 0)) hx hb hts hown hK hW mO in_X3 rfl 0 (by decide) q1212 rfl rfl dX3_frees_159 ?_
                  refine lv_bipush (v := 25) hx hb dX3_frees_162 (by decide) ?_
                  refine lv_iload hx hb dX3_frees_164 (lv_at hl 4 rfl) ?_
                  refine lv_iadd hx hb dX3_frees_166 ?_
                  refine lv_iload hx hb dX3_frees_167 (lv_at hl 5 rfl) ?_
                  obtain ⟨f18, hf18, hm8⟩ := ob1_e hm8
                  refine g_iast hx hb hK mwf hI hA hW hS mA0 hf18 dX3_frees_169 (fun H locs hW hS => ?_)
                  obtain ⟨rfl, rfl, rfl, rfl⟩ := so4 hm8
                  exact K8 _ _ ls hW hS (lv_sub hl [1, 2, 3, 0, 4, 5, 6] rfl)
                · refine lv_icmp_ge (tgt := 156) hx hb dX3_frees_148 (by decide) (fun c17 => ?_) (fun c17 => ?_)
                  · rw [if_pos c17] at hm16
                    refine lv_iload_n hx hb dX3_frees_156 rfl (lv_at hl 3 rfl) ?_
                    obtain rfl := so1 hm16
                    exact K16 ls (lv_sub hl [1, 2, 0, 4, 5, 6] rfl)
                  · rw [if_neg c17] at hm16
                    refine lv_iload hx hb dX3_frees_151 (lv_at hl 7 rfl) ?_
                    refine lv_goto (tgt := 157) hx hb dX3_frees_153 (by decide) ?_
                    obtain rfl := so1 hm16
                    exact K16 ls (lv_sub hl [1, 2, 0, 4, 5, 6] rfl)
              · refine lv_icmp_ge (tgt := 143) hx hb dX3_frees_129 (by decide) (fun c15 => ?_) (fun c15 => ?_)
                · rw [if_pos c15] at hm14
                  refine lv_iload_n hx hb dX3_frees_143 rfl (lv_at hl 3 rfl) ?_
                  obtain rfl := so1 hm14
                  exact K14 ls (lv_sub hl [1, 2, 4, 5, 6, 7, 0] rfl)
                · rw [if_neg c15] at hm14
                  refine lv_bipush (v := 8) hx hb dX3_frees_132 (by decide) ?_
                  refine lv_iload hx hb dX3_frees_134 (lv_at hl 5 rfl) ?_
                  refine lv_imul hx hb dX3_frees_136 ?_
                  refine lv_iload hx hb dX3_frees_137 (lv_at hl 7 rfl) ?_
                  refine lv_iadd hx hb dX3_frees_139 ?_
                  refine lv_goto (tgt := 144) hx hb dX3_frees_140 (by decide) ?_
                  obtain rfl := so1 hm14
                  exact K14 ls (lv_sub hl [1, 2, 4, 5, 6, 7, 0] rfl)
def m_frees_L34 (u1 : Int32) : Nat → (Nat → Int32) → (Nat → Nat → Int32) → Int32 → Int32 → Int32 → Option ((Nat → Int32) × (Nat → Nat → Int32) × Int32 × Int32 × Int32)
  | 0, _, _, _, _, _ => none
  | n + 1, I, A, x2, x3, x4 =>
    ob1 (ldO (A 0) 2044 7) fun (v1 : Int32) =>
    if v1 ≤ x4 then (some (I, A, x2, x3, x4)) else (ob1 (ldO (A 0) 2044 (25 + x4)) fun (v3 : Int32) =>
      ob5 (m_frees_L61 u1 x4 v3 NF I A x2 x3 0) fun (I4 : Nat → Int32) (A5 : Nat → Nat → Int32) (v6 : Int32) (v7 : Int32) (v8 : Int32) =>
      m_frees_L34 u1 n I4 A5 v6 v7 (x4 + 1))
set_option maxRecDepth 100000 in
set_option maxHeartbeats 4000000 in
theorem m_frees_L34_w {p : Program} {l : Launch} {e : Env} {R0 : Room} {s : State} {m : MethodId} {args : Array Value} {below : List Frame} {meth : Method} {c : Code} {cells slots : Nat} {Q : State → Prop} {D : dd_} {ad : Nat → Nat} (hx : p.tables.exec = Jvm.exec) (hb : c.code = cX3_frees) (hml : c.maxLocals = 8) (hown : s.vm.findClass RX3 = some m.cls) (hts : ∀ w ∈ lw_all, w.before args s = true) (hK : Kx D s) (hRf : 5 ≤ R0.frames) (hRl : 105 ≤ R0.locals) (hcs : cells ≤ R0.cells ∧ slots ≤ R0.slots) (hI : Inj mS ad) (u1 : Int32) (I9 : (Nat → Int32)) (A9 : (Nat → Nat → Int32)) (y2 : Int32) (y3 : Int32) (y4 : Int32) (KX : ∀ (H : Heap) (locs : List Loc) (ls : Array Slot), WH D mS ad I9 A9 nR nG H → va_S (frS mS ad) s.heap H locs → lv_has ls 8 [(1, .int u1), (2, .int y2), (3, .int y3)] → W p l e R0 s m args below meth c H locs cells slots Q (F0 m 182 ls [])) : ∀ (n : Nat) (I : (Nat → Int32)) (A : (Nat → Nat → Int32)) (x2 : Int32) (x3 : Int32) (x4 : Int32) (H : Heap) (locs : List Loc) (ls : Array Slot), m_frees_L34 u1 n I A x2 x3 x4 = some (I9, A9, y2, y3, y4) → WH D mS ad I A nR nG H → va_S (frS mS ad) s.heap H locs → lv_has ls 8 [(0, .ref (ad 99)), (1, .int u1), (2, .int x2), (3, .int x3), (4, .int x4)] → W p l e R0 s m args below meth c H locs cells slots Q (F0 m 34 ls []) := by
  intro n
  have hA : ∀ i ∈ idxS mS, frS mS ad (ad i) := fun i hi => ⟨i, hi, rfl⟩
  induction n with
  | zero =>
    intro I A x2 x3 x4 H locs ls hf
    exact nomatch (show (none : Option ((Nat → Int32) × (Nat → Nat → Int32) × Int32 × Int32 × Int32)) = some (I9, A9, y2, y3, y4) from hf)
  | succ n ih =>
    intro I A x2 x3 x4 H locs ls hf hW hS hl
    have hf : (ob1 (ldO (A 0) 2044 7) fun (v1 : Int32) =>
        if v1 ≤ x4 then (some (I, A, x2, x3, x4)) else (ob1 (ldO (A 0) 2044 (25 + x4)) fun (v3 : Int32) =>
          ob5 (m_frees_L61 u1 x4 v3 NF I A x2 x3 0) fun (I4 : Nat → Int32) (A5 : Nat → Nat → Int32) (v6 : Int32) (v7 : Int32) (v8 : Int32) =>
          m_frees_L34 u1 n I4 A5 v6 v7 (x4 + 1))) = some (I9, A9, y2, y3, y4) := hf
    refine lv_iload hx hb dX3_frees_34 (lv_at hl 4 rfl) ?_
    refine lv_aload_n hx hb dX3_frees_36 rfl (lv_at hl 0 rfl) ?_
    refine g_get (v := .ref (ad 0)) hx hb hts hown hK hW mO in_X3 rfl 0 (by decide) q1212 rfl rfl dX3_frees_37 ?_
    refine lv_bipush (v := 7) hx hb dX3_frees_40 (by decide) ?_
    obtain ⟨v1, hv1, hf⟩ := ob1_e hf
    refine g_iald hx hb hK hW mA0 hv1 dX3_frees_42 ?_
    refine lv_icmp_ge (tgt := 182) hx hb dX3_frees_43 (by decide) (fun c2 => ?_) (fun c2 => ?_)
    · rw [if_pos c2] at hf
      obtain ⟨rfl, rfl, rfl, rfl, rfl⟩ := so5 hf
      exact KX _ _ ls hW hS (lv_sub hl [1, 2, 3] rfl)
    · rw [if_neg c2] at hf
      refine lv_aload_n hx hb dX3_frees_46 rfl (lv_at hl 0 rfl) ?_
      refine g_get (v := .ref (ad 0)) hx hb hts hown hK hW mO in_X3 rfl 0 (by decide) q1212 rfl rfl dX3_frees_47 ?_
      refine lv_bipush (v := 25) hx hb dX3_frees_50 (by decide) ?_
      refine lv_iload hx hb dX3_frees_52 (lv_at hl 4 rfl) ?_
      refine lv_iadd hx hb dX3_frees_54 ?_
      obtain ⟨v3, hv3, hf⟩ := ob1_e hf
      refine g_iald hx hb hK hW mA0 hv3 dX3_frees_55 ?_
      refine lv_istore (lv' := [(5, .int v3), (0, .ref (ad 99)), (1, .int u1), (2, .int x2), (3, .int x3), (4, .int x4)]) hx hb dX3_frees_56 hl (by decide) rfl (fun ls hl => ?_)
      refine lv_iconst (v := 0) hx hb dX3_frees_58 (by decide) ?_
      refine lv_istore (lv' := [(6, .int 0), (5, .int v3), (0, .ref (ad 99)), (1, .int u1), (2, .int x2), (3, .int x3), (4, .int x4)]) hx hb dX3_frees_59 hl (by decide) rfl (fun ls hl => ?_)
      obtain ⟨I4, A5, v6, v7, v8, hq8, hf⟩ := ob5_e hf
      refine m_frees_L61_w hx hb hml hown hts hK hRf hRl hcs hI u1 x4 v3 I4 A5 v6 v7 v8 (fun H locs ls hW hS hl => ?_) NF I A x2 x3 0 _ _ ls hq8 hW hS (lv_sub hl [2, 3, 4, 5, 6, 1, 0] rfl)
      refine lv_iinc (v := x4 + 1) (lv' := [(4, .int (x4 + 1)), (0, .ref (ad 99)), (1, .int u1), (2, .int v6), (3, .int v7)]) hx hb dX3_frees_176 hl (k := 4) rfl (by rfl) (by decide) rfl (fun ls hl => ?_)
      refine lv_goto (tgt := 34) hx hb dX3_frees_179 (by decide) ?_
      exact ih I4 A5 v6 v7 (x4 + 1) _ _ ls hf hW hS (lv_sub hl [1, 2, 3, 4, 0] rfl)
def m_frees (I : Nat → Int32) (A : Nat → Nat → Int32) (a0 : Int32) : Option (Int32 × (Nat → Int32) × (Nat → Nat → Int32)) :=
  ob1 (m_isNone I A ) fun (v1 : Int32) =>
  if v1 = 0 then (ob1 (m_in a0.toInt64 0 1) fun (v3 : Int32) =>
    if v3 = 0 then (some ((-1000001), I, A)) else (ob1 (m_greatest I A ) fun (v5 : Int32) =>
      ob5 (m_frees_L34 a0 NF I A (-1000000) v5 0) fun (I6 : Nat → Int32) (A7 : Nat → Nat → Int32) (v8 : Int32) (v9 : Int32) (v10 : Int32) =>
      ob1 (if a0 = 0 then ((some v8 : Option (Int32))) else ((some v9 : Option (Int32)))) fun (v11 : Int32) =>
      some (v11, I6, A7))) else (some ((-1000002), I, A))
set_option maxRecDepth 100000 in
set_option maxHeartbeats 4000000 in
theorem m_frees_met (l : Launch) (D : dd_) (ad : Nat → Nat) (hI : Inj mS ad) (I : Nat → Int32) (A : Nat → Nat → Int32) (a0 : Int32) (r : Int32) (I1 : (Nat → Int32)) (A1 : (Nat → Nat → Int32)) (hf : m_frees I A a0 = some (r, I1, A1)) : Met l yX3_frees (ws_ yX3_frees cX3_frees 8 (some .int)) ({ frames := 5, cells := 0, slots := 0, locals := 105 }) (PcW D mS ad I A nR nG [.ref (ad 99), .int a0]) (QcW D mS ad I1 A1 nR nG (some (.int r))) 0 0 (frS mS ad) := by
  refine Met.ofW (cc := cX3_frees) (maxL := 8) (ret := (some .int)) (by decide) rfl ?_
  intro p e s m args below meth c s₁ B hml hv
  obtain ⟨rfl, hK, hW⟩ := hv
  have hx := B.exec
  have hb := B.bytes
  have hr := B.returns
  have hts := atoms_spec (ws := (ws_ yX3_frees cX3_frees 8 (some .int))) B.pre
  have hts : ∀ w ∈ lw_all, w.before _ s = true := fun w h => hts w (List.mem_cons_of_mem _ h)
  have hown : s.vm.findClass RX3 = some m.cls := findClass_of_methodNamed B.named
  have hlocks := B.notSynchronized
  have hRf : 5 ≤ (headSpec (ws_ yX3_frees cX3_frees 8 (some .int)) ({ frames := 5, cells := 0, slots := 0, locals := 105 })).room.frames := Nat.le_refl _
  have hRl : 105 ≤ (headSpec (ws_ yX3_frees cX3_frees 8 (some .int)) ({ frames := 5, cells := 0, slots := 0, locals := 105 })).room.locals := Nat.le_refl _
  have hcs : 0 ≤ (headSpec (ws_ yX3_frees cX3_frees 8 (some .int)) ({ frames := 5, cells := 0, slots := 0, locals := 105 })).room.cells ∧ 0 ≤ (headSpec (ws_ yX3_frees cX3_frees 8 (some .int)) ({ frames := 5, cells := 0, slots := 0, locals := 105 })).room.slots := ⟨Nat.zero_le _, Nat.zero_le _⟩
  have hA : ∀ i ∈ idxS mS, frS mS ad (ad i) := fun i hi => ⟨i, hi, rfl⟩
  have hS : va_S (frS mS ad) s.heap s.heap [] := va_S.rf
  have hl := lv_entry ([.ref (ad 99), .int a0]) (n := 8) (Nat.le_of_ble_eq_true rfl)
  rw [lg_entry_eq]
  generalize (lg_sl ([.ref (ad 99), .int a0]) ++ List.replicate (8 - (lg_sl ([.ref (ad 99), .int a0])).length) Slot.unset).toArray = ls at hl ⊢
  have hl : lv_has ls 8 [(0, .ref (ad 99)), (1, .int a0)] := hl
  have hf : (ob1 (m_isNone I A ) fun (v1 : Int32) =>
    if v1 = 0 then (ob1 (m_in a0.toInt64 0 1) fun (v3 : Int32) =>
      if v3 = 0 then (some ((-1000001), I, A)) else (ob1 (m_greatest I A ) fun (v5 : Int32) =>
        ob5 (m_frees_L34 a0 NF I A (-1000000) v5 0) fun (I6 : Nat → Int32) (A7 : Nat → Nat → Int32) (v8 : Int32) (v9 : Int32) (v10 : Int32) =>
        ob1 (if a0 = 0 then ((some v8 : Option (Int32))) else ((some v9 : Option (Int32)))) fun (v11 : Int32) =>
        some (v11, I6, A7))) else (some ((-1000002), I, A))) = some (r, I1, A1) := hf
  refine lv_aload_n hx hb dX3_frees_0 rfl (lv_at hl 0 rfl) ?_
  obtain ⟨v1, h1, hf⟩ := ob1_e hf
  refine g_vR (ov := some (.int v1)) (D := D) (Sc := mS) (adc := ad) (Ic := I) (Ac := A) (Rc := nR) (Gc := nG) (As := []) (rest := []) (b := ad 99) (C := RX3) ⟨hx, hb, hml, hown, hts⟩ (m_isNone_met l D ad I A  v1 h1) (g_cwV 0 hts (lw_V q1446 q1448 qs53 q82 q1449) rfl rfl m_isNone_ds ⟨Nat.le_trans (Nat.le_of_ble_eq_true rfl) hRf, Nat.le_trans (Nat.le_of_ble_eq_true rfl) hRl⟩) (g_recv hK hW mO rfl) hK hW hcs rfl hl.1 rfl (Nat.le_of_ble_eq_true rfl) dX3_frees_1 ?_
  refine lv_if_eq (tgt := 10) hx hb dX3_frees_4 (by decide) (fun c2 => ?_) (fun c2 => ?_)
  · rw [if_pos c2] at hf
    refine lv_iload_n hx hb dX3_frees_10 rfl (lv_at hl 1 rfl) ?_
    refine lv_i2l (v := a0.toInt64) hx hb dX3_frees_11 rfl ?_
    refine lv_lconst (v := 0) hx hb dX3_frees_12 (by decide) ?_
    refine lv_lconst (v := 1) hx hb dX3_frees_13 (by decide) ?_
    obtain ⟨v3, h3, hf⟩ := ob1_e hf
    refine g_sR (ov := some (.int v3)) (D := D) (Sc := nS) (adc := ad) (Ic := (fun _ => 0)) (Ac := (fun _ _ => 0)) (Rc := nR) (Gc := nG) (As := [.long a0.toInt64, .long 0, .long 1]) (rest := []) ⟨hx, hb, hml, hown, hts⟩ (m_in_met l D ad a0.toInt64 0 1 v3 h3) (va_cwS 3 hts (lw_S q1294 q1295 q82 q1296) rfl rfl rfl m_in_ds.2 ⟨Nat.le_trans (Nat.le_of_ble_eq_true rfl) hRf, Nat.le_trans (Nat.le_of_ble_eq_true rfl) hRl⟩) hK WH_nil hcs rfl hl.1 rfl (Nat.le_of_ble_eq_true rfl) dX3_frees_14 ?_
    refine lv_if_ne (tgt := 23) hx hb dX3_frees_17 (by decide) (fun c4 => ?_) (fun c4 => ?_)
    · rw [if_neg c4] at hf
      refine lv_ldc (v := (-1000000)) hx hb hown (hts _ q1492) dX3_frees_23 ?_
      refine lv_istore_n (lv' := [(2, .int (-1000000)), (0, .ref (ad 99)), (1, .int a0)]) hx hb dX3_frees_25 rfl hl (by decide) rfl (fun ls hl => ?_)
      refine lv_aload_n hx hb dX3_frees_26 rfl (lv_at hl 1 rfl) ?_
      obtain ⟨v5, h5, hf⟩ := ob1_e hf
      refine g_vR (ov := some (.int v5)) (D := D) (Sc := mS) (adc := ad) (Ic := I) (Ac := A) (Rc := nR) (Gc := nG) (As := []) (rest := []) (b := ad 99) (C := RX3) ⟨hx, hb, hml, hown, hts⟩ (m_greatest_met l D ad I A  v5 h5) (g_cwV 0 hts (lw_V q1497 q1499 qs57 q82 q1500) rfl rfl m_greatest_ds ⟨Nat.le_trans (Nat.le_of_ble_eq_true rfl) hRf, Nat.le_trans (Nat.le_of_ble_eq_true rfl) hRl⟩) (g_recv hK hW mO rfl) hK hW hcs rfl hl.1 rfl (Nat.le_of_ble_eq_true rfl) dX3_frees_27 ?_
      refine lv_istore_n (lv' := [(3, .int v5), (2, .int (-1000000)), (0, .ref (ad 99)), (1, .int a0)]) hx hb dX3_frees_30 rfl hl (by decide) rfl (fun ls hl => ?_)
      refine lv_iconst (v := 0) hx hb dX3_frees_31 (by decide) ?_
      refine lv_istore (lv' := [(4, .int 0), (3, .int v5), (2, .int (-1000000)), (0, .ref (ad 99)), (1, .int a0)]) hx hb dX3_frees_32 hl (by decide) rfl (fun ls hl => ?_)
      obtain ⟨I6, A7, v8, v9, v10, hq10, hf⟩ := ob5_e hf
      refine m_frees_L34_w hx hb hml hown hts hK hRf hRl hcs hI a0 I6 A7 v8 v9 v10 (fun H locs ls hW hS hl => ?_) NF I A (-1000000) v5 0 _ _ ls hq10 hW hS (lv_sub hl [3, 4, 2, 1, 0] rfl)
      refine lv_iload_n hx hb dX3_frees_182 rfl (lv_at hl 0 rfl) ?_
      obtain ⟨v11, hm11, hf⟩ := ob1_e hf
      refine w_cutL (nL := 8) (L := []) (pcj := 191) (st := [.int v11]) (fun ls hl => ?_) (fun K11 => ?_)
      · obtain ⟨rfl, rfl, rfl⟩ := so3 hf
        exact W.iret hx hb hr (fun t ht _ => ⟨rfl, by rw [ht]; exact hW, hS.F ht⟩) hS.2.2 dX3_frees_191
      · refine lv_if_ne (tgt := 190) hx hb dX3_frees_183 (by decide) (fun c12 => ?_) (fun c12 => ?_)
        · rw [if_neg c12] at hm11
          refine lv_iload_n hx hb dX3_frees_190 rfl (lv_at hl 2 rfl) ?_
          obtain rfl := so1 hm11
          exact K11 ls (lv_sub hl [] rfl)
        · rw [if_pos c12] at hm11
          refine lv_iload_n hx hb dX3_frees_186 rfl (lv_at hl 1 rfl) ?_
          refine lv_goto (tgt := 191) hx hb dX3_frees_187 (by decide) ?_
          obtain rfl := so1 hm11
          exact K11 ls (lv_sub hl [] rfl)
    · rw [if_pos c4] at hf
      refine lv_ldc (v := (-1000001)) hx hb hown (hts _ q1298) dX3_frees_20 ?_
      obtain ⟨rfl, rfl, rfl⟩ := so3 hf
      exact W.iret hx hb hr (fun t ht _ => ⟨rfl, by rw [ht]; exact hW, hS.F ht⟩) hS.2.2 dX3_frees_22
  · rw [if_neg c2] at hf
    refine lv_ldc (v := (-1000002)) hx hb hown (hts _ q1391) dX3_frees_7 ?_
    obtain ⟨rfl, rfl, rfl⟩ := so3 hf
    exact W.iret hx hb hr (fun t ht _ => ⟨rfl, by rw [ht]; exact hW, hS.F ht⟩) hS.2.2 dX3_frees_9
theorem m_frees_ds : yX3_frees.cls = RX3 ∧ yX3_frees.cls ≠ "java/lang/invoke/MethodHandle" ∧ yX3_frees.cls ≠ "java/lang/invoke/VarHandle" ∧ (parseMethodDescriptor yX3_frees.desc).map (fun d => d.parameters.length) = some 1 := by decide +kernel
/-! boat -/
def m_boat_L76 (I : Nat → Int32) (A : Nat → Nat → Int32) (u1 : Int32) (u2 : Int32) (u3 : Int32) (u4 : Int32) : Nat → Int32 → Int32 → Option (Int32 × Int32)
  | 0, _, _ => none
  | n + 1, x5, x6 =>
    ob1 (ldO (A 0) 2044 6) fun (v1 : Int32) =>
    if v1 ≤ x6 then (some (x5, x6)) else (ob1 (m_has u4 x6) fun (v3 : Int32) =>
      ob1 (if v3 = 0 then ((some 0 : Option (Int32))) else (ob1 (m_loadOf I A x6) fun (v6 : Int32) =>
          (some (v6 + 10) : Option (Int32)))) fun (v4 : Int32) =>
      m_boat_L76 I A u1 u2 u3 u4 n (x5 + v4) (x6 + 1))
set_option maxRecDepth 100000 in
set_option maxHeartbeats 4000000 in
theorem m_boat_L76_w {p : Program} {l : Launch} {e : Env} {R0 : Room} {s : State} {m : MethodId} {args : Array Value} {below : List Frame} {meth : Method} {c : Code} {cells slots : Nat} {Q : State → Prop} {D : dd_} {ad : Nat → Nat} (hx : p.tables.exec = Jvm.exec) (hb : c.code = cX3_boat) (hml : c.maxLocals = 7) (hown : s.vm.findClass RX3 = some m.cls) (hts : ∀ w ∈ lw_all, w.before args s = true) (hK : Kx D s) (hRf : 4 ≤ R0.frames) (hRl : 82 ≤ R0.locals) (hcs : cells ≤ R0.cells ∧ slots ≤ R0.slots) {H : Heap} {locs : List Loc} (I : Nat → Int32) (A : Nat → Nat → Int32) (u1 : Int32) (u2 : Int32) (u3 : Int32) (u4 : Int32) (hW : WH D mS ad I A nR nG H) (y5 : Int32) (y6 : Int32) (KX : ∀ (ls : Array Slot), lv_has ls 7 [(0, .ref (ad 99)), (1, .int u1), (2, .int u2), (3, .int u3), (4, .int u4), (5, .int y5)] → W p l e R0 s m args below meth c H locs cells slots Q (F0 m 122 ls [])) : ∀ (n : Nat) (x5 : Int32) (x6 : Int32) (ls : Array Slot), m_boat_L76 I A u1 u2 u3 u4 n x5 x6 = some (y5, y6) → lv_has ls 7 [(0, .ref (ad 99)), (1, .int u1), (2, .int u2), (3, .int u3), (4, .int u4), (5, .int x5), (6, .int x6)] → W p l e R0 s m args below meth c H locs cells slots Q (F0 m 76 ls []) := by
  intro n
  induction n with
  | zero =>
    intro x5 x6 ls hf
    exact nomatch (show (none : Option (Int32 × Int32)) = some (y5, y6) from hf)
  | succ n ih =>
    intro x5 x6 ls hf hl
    have hf : (ob1 (ldO (A 0) 2044 6) fun (v1 : Int32) =>
        if v1 ≤ x6 then (some (x5, x6)) else (ob1 (m_has u4 x6) fun (v3 : Int32) =>
          ob1 (if v3 = 0 then ((some 0 : Option (Int32))) else (ob1 (m_loadOf I A x6) fun (v6 : Int32) =>
              (some (v6 + 10) : Option (Int32)))) fun (v4 : Int32) =>
          m_boat_L76 I A u1 u2 u3 u4 n (x5 + v4) (x6 + 1))) = some (y5, y6) := hf
    refine lv_iload hx hb dX3_boat_76 (lv_at hl 6 rfl) ?_
    refine lv_aload_n hx hb dX3_boat_78 rfl (lv_at hl 0 rfl) ?_
    refine g_get (v := .ref (ad 0)) hx hb hts hown hK hW mO in_X3 rfl 0 (by decide) q1212 rfl rfl dX3_boat_79 ?_
    refine lv_bipush (v := 6) hx hb dX3_boat_82 (by decide) ?_
    obtain ⟨v1, hv1, hf⟩ := ob1_e hf
    refine g_iald hx hb hK hW mA0 hv1 dX3_boat_84 ?_
    refine lv_icmp_ge (tgt := 122) hx hb dX3_boat_85 (by decide) (fun c2 => ?_) (fun c2 => ?_)
    · rw [if_pos c2] at hf
      obtain ⟨rfl, rfl⟩ := so2 hf
      exact KX ls (lv_sub hl [0, 1, 2, 3, 4, 5] rfl)
    · rw [if_neg c2] at hf
      refine lv_iload hx hb dX3_boat_88 (lv_at hl 5 rfl) ?_
      refine lv_iload hx hb dX3_boat_90 (lv_at hl 4 rfl) ?_
      refine lv_iload hx hb dX3_boat_92 (lv_at hl 6 rfl) ?_
      obtain ⟨v3, h3, hf⟩ := ob1_e hf
      refine g_sR (ov := some (.int v3)) (D := D) (Sc := nS) (adc := ad) (Ic := (fun _ => 0)) (Ac := (fun _ _ => 0)) (Rc := nR) (Gc := nG) (As := [.int u4, .int x6]) (rest := [.int x5]) ⟨hx, hb, hml, hown, hts⟩ (m_has_met l D ad u4 x6 v3 h3) (va_cwS 2 hts (lw_S q1486 q1487 q82 q1488) rfl rfl rfl m_has_ds.2 ⟨Nat.le_trans (Nat.le_of_ble_eq_true rfl) hRf, Nat.le_trans (Nat.le_of_ble_eq_true rfl) hRl⟩) hK WH_nil hcs rfl hl.1 rfl (Nat.le_of_ble_eq_true rfl) dX3_boat_94 ?_
      obtain ⟨v4, hm4, hf⟩ := ob1_e hf
      refine w_cutL (nL := 7) (L := [(0, .ref (ad 99)), (1, .int u1), (2, .int u2), (3, .int u3), (4, .int u4), (6, .int x6)]) (pcj := 113) (st := [.int v4, .int x5]) (fun ls hl => ?_) (fun K4 => ?_)
      · refine lv_iadd hx hb dX3_boat_113 ?_
        refine lv_istore (lv' := [(5, .int (x5 + v4)), (0, .ref (ad 99)), (1, .int u1), (2, .int u2), (3, .int u3), (4, .int u4), (6, .int x6)]) hx hb dX3_boat_114 hl (by decide) rfl (fun ls hl => ?_)
        refine lv_iinc (v := x6 + 1) (lv' := [(6, .int (x6 + 1)), (5, .int (x5 + v4)), (0, .ref (ad 99)), (1, .int u1), (2, .int u2), (3, .int u3), (4, .int u4)]) hx hb dX3_boat_116 hl (k := 6) rfl (by rfl) (by decide) rfl (fun ls hl => ?_)
        refine lv_goto (tgt := 76) hx hb dX3_boat_119 (by decide) ?_
        exact ih (x5 + v4) (x6 + 1) ls hf (lv_sub hl [2, 3, 4, 5, 6, 1, 0] rfl)
      · refine lv_if_eq (tgt := 112) hx hb dX3_boat_97 (by decide) (fun c5 => ?_) (fun c5 => ?_)
        · rw [if_pos c5] at hm4
          refine lv_iconst (v := 0) hx hb dX3_boat_112 (by decide) ?_
          obtain rfl := so1 hm4
          exact K4 ls (lv_sub hl [0, 1, 2, 3, 4, 6] rfl)
        · rw [if_neg c5] at hm4
          refine lv_aload_n hx hb dX3_boat_100 rfl (lv_at hl 0 rfl) ?_
          refine lv_iload hx hb dX3_boat_101 (lv_at hl 6 rfl) ?_
          obtain ⟨v6, h6, hm4⟩ := ob1_e hm4
          refine g_vR (ov := some (.int v6)) (D := D) (Sc := mS) (adc := ad) (Ic := I) (Ac := A) (Rc := nR) (Gc := nG) (As := [.int x6]) (rest := [.int x5]) (b := ad 99) (C := RX3) ⟨hx, hb, hml, hown, hts⟩ (m_loadOf_met l D ad I A x6 v6 h6) (g_cwV 1 hts (lw_V q1409 q1411 qs49 q82 q1412) rfl rfl m_loadOf_ds ⟨Nat.le_trans (Nat.le_of_ble_eq_true rfl) hRf, Nat.le_trans (Nat.le_of_ble_eq_true rfl) hRl⟩) (g_recv hK hW mO rfl) hK hW hcs rfl hl.1 rfl (Nat.le_of_ble_eq_true rfl) dX3_boat_103 ?_
          refine lv_bipush (v := 10) hx hb dX3_boat_106 (by decide) ?_
          refine lv_iadd hx hb dX3_boat_108 ?_
          refine lv_goto (tgt := 113) hx hb dX3_boat_109 (by decide) ?_
          obtain rfl := so1 hm4
          exact K4 ls (lv_sub hl [0, 1, 2, 3, 4, 6] rfl)
def m_boat_L64 (u1 : Int32) (u2 : Int32) (u3 : Int32) : Nat → (Nat → Int32) → (Nat → Nat → Int32) → Int32 → Option ((Nat → Int32) × (Nat → Nat → Int32) × Int32)
  | 0, _, _, _ => none
  | n + 1, I, A, x4 =>
    if u3 < x4 then (some (I, A, x4)) else (ob2 (m_boat_L76 I A u1 u2 u3 x4 NF 0 0) fun (v2 : Int32) (v3 : Int32) =>
      ob1 (if (x4 &&& (u3 ^^^ (-1))) = 0 then (if u1 < v2 then ((some 0 : Option (Int32))) else (ob1 (ldO (A 20) 32 (u3 &&& (x4 ^^^ (-1)))) fun (v7 : Int32) =>
            if 1000000000 ≤ v7 then ((some 0 : Option (Int32))) else ((some 1 : Option (Int32))))) else ((some 0 : Option (Int32)))) fun (v4 : Int32) =>
      ob1 (if v4 = 0 then (ob1 (ldO (A 20) 32 u3) fun (v11 : Int32) =>
          (some v11 : Option (Int32))) else (ob1 (ldO (A 20) 32 u3) fun (v12 : Int32) =>
          ob1 (ldO (A 20) 32 (u3 &&& (x4 ^^^ (-1)))) fun (v13 : Int32) =>
          ob1 (m_lesser v12 (1 + v13)) fun (v14 : Int32) =>
          (some v14 : Option (Int32)))) fun (v9 : Int32) =>
      ob1 (stO (A 20) 32 u3 v9) fun (f15 : Nat → Int32) =>
      m_boat_L64 u1 u2 u3 n I (va_up A 20 f15) (x4 + 1))
set_option maxRecDepth 100000 in
set_option maxHeartbeats 4000000 in
theorem m_boat_L64_w {p : Program} {l : Launch} {e : Env} {R0 : Room} {s : State} {m : MethodId} {args : Array Value} {below : List Frame} {meth : Method} {c : Code} {cells slots : Nat} {Q : State → Prop} {D : dd_} {ad : Nat → Nat} (hx : p.tables.exec = Jvm.exec) (hb : c.code = cX3_boat) (hml : c.maxLocals = 7) (hown : s.vm.findClass RX3 = some m.cls) (hts : ∀ w ∈ lw_all, w.before args s = true) (hK : Kx D s) (hRf : 4 ≤ R0.frames) (hRl : 82 ≤ R0.locals) (hcs : cells ≤ R0.cells ∧ slots ≤ R0.slots) (hI : Inj mS ad) (u1 : Int32) (u2 : Int32) (u3 : Int32) (I9 : (Nat → Int32)) (A9 : (Nat → Nat → Int32)) (y4 : Int32) (KX : ∀ (H : Heap) (locs : List Loc) (ls : Array Slot), WH D mS ad I9 A9 nR nG H → va_S (frS mS ad) s.heap H locs → lv_has ls 7 [(0, .ref (ad 99)), (1, .int u1), (2, .int u2), (3, .int u3)] → W p l e R0 s m args below meth c H locs cells slots Q (F0 m 208 ls [])) : ∀ (n : Nat) (I : (Nat → Int32)) (A : (Nat → Nat → Int32)) (x4 : Int32) (H : Heap) (locs : List Loc) (ls : Array Slot), m_boat_L64 u1 u2 u3 n I A x4 = some (I9, A9, y4) → WH D mS ad I A nR nG H → va_S (frS mS ad) s.heap H locs → lv_has ls 7 [(0, .ref (ad 99)), (1, .int u1), (2, .int u2), (3, .int u3), (4, .int x4)] → W p l e R0 s m args below meth c H locs cells slots Q (F0 m 64 ls []) := by
  intro n
  have hA : ∀ i ∈ idxS mS, frS mS ad (ad i) := fun i hi => ⟨i, hi, rfl⟩
  induction n with
  | zero =>
    intro I A x4 H locs ls hf
    exact nomatch (show (none : Option ((Nat → Int32) × (Nat → Nat → Int32) × Int32)) = some (I9, A9, y4) from hf)
  | succ n ih =>
    intro I A x4 H locs ls hf hW hS hl
    have hf : (if u3 < x4 then (some (I, A, x4)) else (ob2 (m_boat_L76 I A u1 u2 u3 x4 NF 0 0) fun (v2 : Int32) (v3 : Int32) =>
          ob1 (if (x4 &&& (u3 ^^^ (-1))) = 0 then (if u1 < v2 then ((some 0 : Option (Int32))) else (ob1 (ldO (A 20) 32 (u3 &&& (x4 ^^^ (-1)))) fun (v7 : Int32) =>
                if 1000000000 ≤ v7 then ((some 0 : Option (Int32))) else ((some 1 : Option (Int32))))) else ((some 0 : Option (Int32)))) fun (v4 : Int32) =>
          ob1 (if v4 = 0 then (ob1 (ldO (A 20) 32 u3) fun (v11 : Int32) =>
              (some v11 : Option (Int32))) else (ob1 (ldO (A 20) 32 u3) fun (v12 : Int32) =>
              ob1 (ldO (A 20) 32 (u3 &&& (x4 ^^^ (-1)))) fun (v13 : Int32) =>
              ob1 (m_lesser v12 (1 + v13)) fun (v14 : Int32) =>
              (some v14 : Option (Int32)))) fun (v9 : Int32) =>
          ob1 (stO (A 20) 32 u3 v9) fun (f15 : Nat → Int32) =>
          m_boat_L64 u1 u2 u3 n I (va_up A 20 f15) (x4 + 1))) = some (I9, A9, y4) := hf
    refine lv_iload hx hb dX3_boat_64 (lv_at hl 4 rfl) ?_
    refine lv_iload_n hx hb dX3_boat_66 rfl (lv_at hl 3 rfl) ?_
    refine lv_icmp_gt (tgt := 208) hx hb dX3_boat_67 (by decide) (fun c1 => ?_) (fun c1 => ?_)
    · rw [if_pos c1] at hf
      obtain ⟨rfl, rfl, rfl⟩ := so3 hf
      exact KX _ _ ls hW hS (lv_sub hl [0, 1, 2, 3] rfl)
    · rw [if_neg c1] at hf
      refine lv_iconst (v := 0) hx hb dX3_boat_70 (by decide) ?_
      refine lv_istore (lv' := [(5, .int 0), (0, .ref (ad 99)), (1, .int u1), (2, .int u2), (3, .int u3), (4, .int x4)]) hx hb dX3_boat_71 hl (by decide) rfl (fun ls hl => ?_)
      refine lv_iconst (v := 0) hx hb dX3_boat_73 (by decide) ?_
      refine lv_istore (lv' := [(6, .int 0), (5, .int 0), (0, .ref (ad 99)), (1, .int u1), (2, .int u2), (3, .int u3), (4, .int x4)]) hx hb dX3_boat_74 hl (by decide) rfl (fun ls hl => ?_)
      obtain ⟨v2, v3, hq3, hf⟩ := ob2_e hf
      refine m_boat_L76_w hx hb hml hown hts hK hRf hRl hcs I A u1 u2 u3 x4 hW v2 v3 (fun ls hl => ?_) NF 0 0 ls hq3 (lv_sub hl [2, 3, 4, 5, 6, 1, 0] rfl)
      refine lv_iload hx hb dX3_boat_122 (lv_at hl 4 rfl) ?_
      refine lv_iload_n hx hb dX3_boat_124 rfl (lv_at hl 3 rfl) ?_
      refine lv_iconst (v := (-1)) hx hb dX3_boat_125 (by decide) ?_
      refine lv_ixor hx hb dX3_boat_126 ?_
      refine lv_iand hx hb dX3_boat_127 ?_
      obtain ⟨v4, hm4, hf⟩ := ob1_e hf
      refine w_cutL (nL := 7) (L := [(0, .ref (ad 99)), (1, .int u1), (2, .int u2), (3, .int u3), (4, .int x4)]) (pcj := 158) (st := [.int v4]) (fun ls hl => ?_) (fun K4 => ?_)
      · refine lv_istore (lv' := [(6, .int v4), (0, .ref (ad 99)), (1, .int u1), (2, .int u2), (3, .int u3), (4, .int x4)]) hx hb dX3_boat_158 hl (by decide) rfl (fun ls hl => ?_)
        refine lv_aload_n hx hb dX3_boat_160 rfl (lv_at hl 1 rfl) ?_
        refine g_get (v := .ref (ad 20)) hx hb hts hown hK hW mO in_X3 rfl 20 (by decide) q1232 rfl rfl dX3_boat_161 ?_
        refine lv_iload_n hx hb dX3_boat_164 rfl (lv_at hl 4 rfl) ?_
        refine lv_iload hx hb dX3_boat_165 (lv_at hl 0 rfl) ?_
        obtain ⟨v9, hm9, hf⟩ := ob1_e hf
        refine w_cutL (nL := 7) (L := [(0, .ref (ad 99)), (1, .int u1), (2, .int u2), (3, .int u3), (4, .int x4)]) (pcj := 201) (st := [.int v9, .int u3, .ref (ad 20)]) (fun ls hl => ?_) (fun K9 => ?_)
        · obtain ⟨f15, hf15, hf⟩ := ob1_e hf
          refine g_iast hx hb hK mwf hI hA hW hS mA20 hf15 dX3_boat_201 (fun H locs hW hS => ?_)
          refine lv_iinc (v := x4 + 1) (lv' := [(4, .int (x4 + 1)), (0, .ref (ad 99)), (1, .int u1), (2, .int u2), (3, .int u3)]) hx hb dX3_boat_202 hl (k := 4) rfl (by rfl) (by decide) rfl (fun ls hl => ?_)
          refine lv_goto (tgt := 64) hx hb dX3_boat_205 (by decide) ?_
          exact ih I (va_up A 20 f15) (x4 + 1) _ _ ls hf hW hS (lv_sub hl [1, 2, 3, 4, 0] rfl)
        · refine lv_if_eq (tgt := 195) hx hb dX3_boat_167 (by decide) (fun c10 => ?_) (fun c10 => ?_)
          · rw [if_pos c10] at hm9
            refine lv_aload_n hx hb dX3_boat_195 rfl (lv_at hl 1 rfl) ?_
            refine g_get (v := .ref (ad 20)) hx hb hts hown hK hW mO in_X3 rfl 20 (by decide) q1232 rfl rfl dX3_boat_196 ?_
            refine lv_iload_n hx hb dX3_boat_199 rfl (lv_at hl 4 rfl) ?_
            obtain ⟨v11, hv11, hm9⟩ := ob1_e hm9
            refine g_iald hx hb hK hW mA20 hv11 dX3_boat_200 ?_
            obtain rfl := so1 hm9
            exact K9 ls (lv_sub hl [1, 2, 3, 4, 5] rfl)
          · rw [if_neg c10] at hm9
            refine lv_aload_n hx hb dX3_boat_170 rfl (lv_at hl 1 rfl) ?_
            refine g_get (v := .ref (ad 20)) hx hb hts hown hK hW mO in_X3 rfl 20 (by decide) q1232 rfl rfl dX3_boat_171 ?_
            refine lv_iload_n hx hb dX3_boat_174 rfl (lv_at hl 4 rfl) ?_
            obtain ⟨v12, hv12, hm9⟩ := ob1_e hm9
            refine g_iald hx hb hK hW mA20 hv12 dX3_boat_175 ?_
            refine lv_iconst (v := 1) hx hb dX3_boat_176 (by decide) ?_
            refine lv_aload_n hx hb dX3_boat_177 rfl (lv_at hl 1 rfl) ?_
            refine g_get (v := .ref (ad 20)) hx hb hts hown hK hW mO in_X3 rfl 20 (by decide) q1232 rfl rfl dX3_boat_178 ?_
            refine lv_iload_n hx hb dX3_boat_181 rfl (lv_at hl 4 rfl) ?_
            refine lv_iload hx hb dX3_boat_182 (lv_at hl 5 rfl) ?_
            refine lv_iconst (v := (-1)) hx hb dX3_boat_184 (by decide) ?_
            refine lv_ixor hx hb dX3_boat_185 ?_
            refine lv_iand hx hb dX3_boat_186 ?_
            obtain ⟨v13, hv13, hm9⟩ := ob1_e hm9
            refine g_iald hx hb hK hW mA20 hv13 dX3_boat_187 ?_
            refine lv_iadd hx hb dX3_boat_188 ?_
            obtain ⟨v14, h14, hm9⟩ := ob1_e hm9
            refine g_sR (ov := some (.int v14)) (D := D) (Sc := nS) (adc := ad) (Ic := (fun _ => 0)) (Ac := (fun _ _ => 0)) (Rc := nR) (Gc := nG) (As := [.int v12, .int (1 + v13)]) (rest := [.int u3, .ref (ad 20)]) ⟨hx, hb, hml, hown, hts⟩ (m_lesser_met l D ad v12 (1 + v13) v14 h14) (va_cwS 2 hts (lw_S q1417 q1418 q82 q1419) rfl rfl rfl m_lesser_ds.2 ⟨Nat.le_trans (Nat.le_of_ble_eq_true rfl) hRf, Nat.le_trans (Nat.le_of_ble_eq_true rfl) hRl⟩) hK WH_nil hcs rfl hl.1 rfl (Nat.le_of_ble_eq_true rfl) dX3_boat_189 ?_
            refine lv_goto (tgt := 201) hx hb dX3_boat_192 (by decide) ?_
            obtain rfl := so1 hm9
            exact K9 ls (lv_sub hl [1, 2, 3, 4, 5] rfl)
      · refine lv_if_ne (tgt := 157) hx hb dX3_boat_128 (by decide) (fun c5 => ?_) (fun c5 => ?_)
        · rw [if_neg c5] at hm4
          refine lv_iconst (v := 0) hx hb dX3_boat_157 (by decide) ?_
          obtain rfl := so1 hm4
          exact K4 ls (lv_sub hl [0, 1, 2, 3, 4] rfl)
        · rw [if_pos c5] at hm4
          refine lv_iload hx hb dX3_boat_131 (lv_at hl 5 rfl) ?_
          refine lv_iload_n hx hb dX3_boat_133 rfl (lv_at hl 1 rfl) ?_
          refine lv_icmp_gt (tgt := 157) hx hb dX3_boat_134 (by decide) (fun c6 => ?_) (fun c6 => ?_)
          · rw [if_pos c6] at hm4
            refine lv_iconst (v := 0) hx hb dX3_boat_157 (by decide) ?_
            obtain rfl := so1 hm4
            exact K4 ls (lv_sub hl [0, 1, 2, 3, 4] rfl)
          · rw [if_neg c6] at hm4
            refine lv_aload_n hx hb dX3_boat_137 rfl (lv_at hl 0 rfl) ?_
            refine g_get (v := .ref (ad 20)) hx hb hts hown hK hW mO in_X3 rfl 20 (by decide) q1232 rfl rfl dX3_boat_138 ?_
            refine lv_iload_n hx hb dX3_boat_141 rfl (lv_at hl 3 rfl) ?_
            refine lv_iload hx hb dX3_boat_142 (lv_at hl 4 rfl) ?_
            refine lv_iconst (v := (-1)) hx hb dX3_boat_144 (by decide) ?_
            refine lv_ixor hx hb dX3_boat_145 ?_
            refine lv_iand hx hb dX3_boat_146 ?_
            obtain ⟨v7, hv7, hm4⟩ := ob1_e hm4
            refine g_iald hx hb hK hW mA20 hv7 dX3_boat_147 ?_
            refine lv_ldc (v := 1000000000) hx hb hown (hts _ q1506) dX3_boat_148 ?_
            refine lv_icmp_ge (tgt := 157) hx hb dX3_boat_150 (by decide) (fun c8 => ?_) (fun c8 => ?_)
            · rw [if_pos c8] at hm4
              refine lv_iconst (v := 0) hx hb dX3_boat_157 (by decide) ?_
              obtain rfl := so1 hm4
              exact K4 ls (lv_sub hl [0, 1, 2, 3, 4] rfl)
            · rw [if_neg c8] at hm4
              refine lv_iconst (v := 1) hx hb dX3_boat_153 (by decide) ?_
              refine lv_goto (tgt := 158) hx hb dX3_boat_154 (by decide) ?_
              obtain rfl := so1 hm4
              exact K4 ls (lv_sub hl [0, 1, 2, 3, 4] rfl)
def m_boat_L48 (u1 : Int32) (u2 : Int32) : Nat → (Nat → Int32) → (Nat → Nat → Int32) → Int32 → Option ((Nat → Int32) × (Nat → Nat → Int32) × Int32)
  | 0, _, _, _ => none
  | n + 1, I, A, x3 =>
    if u2 < x3 then (some (I, A, x3)) else (ob1 (stO (A 20) 32 x3 1000000000) fun (f2 : Nat → Int32) =>
      ob3 (m_boat_L64 u1 u2 x3 NF I (va_up A 20 f2) 1) fun (I3 : Nat → Int32) (A4 : Nat → Nat → Int32) (v5 : Int32) =>
      m_boat_L48 u1 u2 n I3 A4 (x3 + 1))
set_option maxRecDepth 100000 in
set_option maxHeartbeats 4000000 in
theorem m_boat_L48_w {p : Program} {l : Launch} {e : Env} {R0 : Room} {s : State} {m : MethodId} {args : Array Value} {below : List Frame} {meth : Method} {c : Code} {cells slots : Nat} {Q : State → Prop} {D : dd_} {ad : Nat → Nat} (hx : p.tables.exec = Jvm.exec) (hb : c.code = cX3_boat) (hml : c.maxLocals = 7) (hown : s.vm.findClass RX3 = some m.cls) (hts : ∀ w ∈ lw_all, w.before args s = true) (hK : Kx D s) (hRf : 4 ≤ R0.frames) (hRl : 82 ≤ R0.locals) (hcs : cells ≤ R0.cells ∧ slots ≤ R0.slots) (hI : Inj mS ad) (u1 : Int32) (u2 : Int32) (I9 : (Nat → Int32)) (A9 : (Nat → Nat → Int32)) (y3 : Int32) (KX : ∀ (H : Heap) (locs : List Loc) (ls : Array Slot), WH D mS ad I9 A9 nR nG H → va_S (frS mS ad) s.heap H locs → lv_has ls 7 [(0, .ref (ad 99)), (2, .int u2)] → W p l e R0 s m args below meth c H locs cells slots Q (F0 m 214 ls [])) : ∀ (n : Nat) (I : (Nat → Int32)) (A : (Nat → Nat → Int32)) (x3 : Int32) (H : Heap) (locs : List Loc) (ls : Array Slot), m_boat_L48 u1 u2 n I A x3 = some (I9, A9, y3) → WH D mS ad I A nR nG H → va_S (frS mS ad) s.heap H locs → lv_has ls 7 [(0, .ref (ad 99)), (1, .int u1), (2, .int u2), (3, .int x3)] → W p l e R0 s m args below meth c H locs cells slots Q (F0 m 48 ls []) := by
  intro n
  have hA : ∀ i ∈ idxS mS, frS mS ad (ad i) := fun i hi => ⟨i, hi, rfl⟩
  induction n with
  | zero =>
    intro I A x3 H locs ls hf
    exact nomatch (show (none : Option ((Nat → Int32) × (Nat → Nat → Int32) × Int32)) = some (I9, A9, y3) from hf)
  | succ n ih =>
    intro I A x3 H locs ls hf hW hS hl
    have hf : (if u2 < x3 then (some (I, A, x3)) else (ob1 (stO (A 20) 32 x3 1000000000) fun (f2 : Nat → Int32) =>
          ob3 (m_boat_L64 u1 u2 x3 NF I (va_up A 20 f2) 1) fun (I3 : Nat → Int32) (A4 : Nat → Nat → Int32) (v5 : Int32) =>
          m_boat_L48 u1 u2 n I3 A4 (x3 + 1))) = some (I9, A9, y3) := hf
    refine lv_iload_n hx hb dX3_boat_48 rfl (lv_at hl 3 rfl) ?_
    refine lv_iload_n hx hb dX3_boat_49 rfl (lv_at hl 2 rfl) ?_
    refine lv_icmp_gt (tgt := 214) hx hb dX3_boat_50 (by decide) (fun c1 => ?_) (fun c1 => ?_)
    · rw [if_pos c1] at hf
      obtain ⟨rfl, rfl, rfl⟩ := so3 hf
      exact KX _ _ ls hW hS (lv_sub hl [0, 2] rfl)
    · rw [if_neg c1] at hf
      refine lv_aload_n hx hb dX3_boat_53 rfl (lv_at hl 0 rfl) ?_
      refine g_get (v := .ref (ad 20)) hx hb hts hown hK hW mO in_X3 rfl 20 (by decide) q1232 rfl rfl dX3_boat_54 ?_
      refine lv_iload_n hx hb dX3_boat_57 rfl (lv_at hl 3 rfl) ?_
      refine lv_ldc (v := 1000000000) hx hb hown (hts _ q1506) dX3_boat_58 ?_
      obtain ⟨f2, hf2, hf⟩ := ob1_e hf
      refine g_iast hx hb hK mwf hI hA hW hS mA20 hf2 dX3_boat_60 (fun H locs hW hS => ?_)
      refine lv_iconst (v := 1) hx hb dX3_boat_61 (by decide) ?_
      refine lv_istore (lv' := [(4, .int 1), (0, .ref (ad 99)), (1, .int u1), (2, .int u2), (3, .int x3)]) hx hb dX3_boat_62 hl (by decide) rfl (fun ls hl => ?_)
      obtain ⟨I3, A4, v5, hq5, hf⟩ := ob3_e hf
      refine m_boat_L64_w hx hb hml hown hts hK hRf hRl hcs hI u1 u2 x3 I3 A4 v5 (fun H locs ls hW hS hl => ?_) NF I (va_up A 20 f2) 1 _ _ ls hq5 hW hS (lv_sub hl [1, 2, 3, 4, 0] rfl)
      refine lv_iinc (v := x3 + 1) (lv' := [(3, .int (x3 + 1)), (0, .ref (ad 99)), (1, .int u1), (2, .int u2)]) hx hb dX3_boat_208 hl (k := 3) rfl (by rfl) (by decide) rfl (fun ls hl => ?_)
      refine lv_goto (tgt := 48) hx hb dX3_boat_211 (by decide) ?_
      exact ih I3 A4 (x3 + 1) _ _ ls hf hW hS (lv_sub hl [1, 2, 3, 0] rfl)
def m_boat (I : Nat → Int32) (A : Nat → Nat → Int32) (a0 : Int32) : Option (Int32 × (Nat → Int32) × (Nat → Nat → Int32)) :=
  ob1 (m_isNone I A ) fun (v1 : Int32) =>
  if v1 = 0 then (ob1 (m_in a0.toInt64 20 99) fun (v3 : Int32) =>
    if v3 = 0 then (some ((-1000001), I, A)) else (ob1 (ldO (A 0) 2044 6) fun (v5 : Int32) =>
      ob1 (stO (A 20) 32 0 0) fun (f6 : Nat → Int32) =>
      ob3 (m_boat_L48 a0 (((1 : Int32) <<< (v5 &&& 31)) - 1) NF I (va_up A 20 f6) 1) fun (I7 : Nat → Int32) (A8 : Nat → Nat → Int32) (v9 : Int32) =>
      ob1 (ldO (A8 20) 32 (((1 : Int32) <<< (v5 &&& 31)) - 1)) fun (v10 : Int32) =>
      ob1 (if v10 = 1000000000 then ((some (-1000000) : Option (Int32))) else (ob1 (ldO (A8 20) 32 (((1 : Int32) <<< (v5 &&& 31)) - 1)) fun (v13 : Int32) =>
          (some v13 : Option (Int32)))) fun (v11 : Int32) =>
      some (v11, I7, A8))) else (some ((-1000002), I, A))
set_option maxRecDepth 100000 in
set_option maxHeartbeats 4000000 in
theorem m_boat_met (l : Launch) (D : dd_) (ad : Nat → Nat) (hI : Inj mS ad) (I : Nat → Int32) (A : Nat → Nat → Int32) (a0 : Int32) (r : Int32) (I1 : (Nat → Int32)) (A1 : (Nat → Nat → Int32)) (hf : m_boat I A a0 = some (r, I1, A1)) : Met l yX3_boat (ws_ yX3_boat cX3_boat 7 (some .int)) ({ frames := 4, cells := 0, slots := 0, locals := 82 }) (PcW D mS ad I A nR nG [.ref (ad 99), .int a0]) (QcW D mS ad I1 A1 nR nG (some (.int r))) 0 0 (frS mS ad) := by
  refine Met.ofW (cc := cX3_boat) (maxL := 7) (ret := (some .int)) (by decide) rfl ?_
  intro p e s m args below meth c s₁ B hml hv
  obtain ⟨rfl, hK, hW⟩ := hv
  have hx := B.exec
  have hb := B.bytes
  have hr := B.returns
  have hts := atoms_spec (ws := (ws_ yX3_boat cX3_boat 7 (some .int))) B.pre
  have hts : ∀ w ∈ lw_all, w.before _ s = true := fun w h => hts w (List.mem_cons_of_mem _ h)
  have hown : s.vm.findClass RX3 = some m.cls := findClass_of_methodNamed B.named
  have hlocks := B.notSynchronized
  have hRf : 4 ≤ (headSpec (ws_ yX3_boat cX3_boat 7 (some .int)) ({ frames := 4, cells := 0, slots := 0, locals := 82 })).room.frames := Nat.le_refl _
  have hRl : 82 ≤ (headSpec (ws_ yX3_boat cX3_boat 7 (some .int)) ({ frames := 4, cells := 0, slots := 0, locals := 82 })).room.locals := Nat.le_refl _
  have hcs : 0 ≤ (headSpec (ws_ yX3_boat cX3_boat 7 (some .int)) ({ frames := 4, cells := 0, slots := 0, locals := 82 })).room.cells ∧ 0 ≤ (headSpec (ws_ yX3_boat cX3_boat 7 (some .int)) ({ frames := 4, cells := 0, slots := 0, locals := 82 })).room.slots := ⟨Nat.zero_le _, Nat.zero_le _⟩
  have hA : ∀ i ∈ idxS mS, frS mS ad (ad i) := fun i hi => ⟨i, hi, rfl⟩
  have hS : va_S (frS mS ad) s.heap s.heap [] := va_S.rf
  have hl := lv_entry ([.ref (ad 99), .int a0]) (n := 7) (Nat.le_of_ble_eq_true rfl)
  rw [lg_entry_eq]
  generalize (lg_sl ([.ref (ad 99), .int a0]) ++ List.replicate (7 - (lg_sl ([.ref (ad 99), .int a0])).length) Slot.unset).toArray = ls at hl ⊢
  have hl : lv_has ls 7 [(0, .ref (ad 99)), (1, .int a0)] := hl
  have hf : (ob1 (m_isNone I A ) fun (v1 : Int32) =>
    if v1 = 0 then (ob1 (m_in a0.toInt64 20 99) fun (v3 : Int32) =>
      if v3 = 0 then (some ((-1000001), I, A)) else (ob1 (ldO (A 0) 2044 6) fun (v5 : Int32) =>
        ob1 (stO (A 20) 32 0 0) fun (f6 : Nat → Int32) =>
        ob3 (m_boat_L48 a0 (((1 : Int32) <<< (v5 &&& 31)) - 1) NF I (va_up A 20 f6) 1) fun (I7 : Nat → Int32) (A8 : Nat → Nat → Int32) (v9 : Int32) =>
        ob1 (ldO (A8 20) 32 (((1 : Int32) <<< (v5 &&& 31)) - 1)) fun (v10 : Int32) =>
        ob1 (if v10 = 1000000000 then ((some (-1000000) : Option (Int32))) else (ob1 (ldO (A8 20) 32 (((1 : Int32) <<< (v5 &&& 31)) - 1)) fun (v13 : Int32) =>
            (some v13 : Option (Int32)))) fun (v11 : Int32) =>
        some (v11, I7, A8))) else (some ((-1000002), I, A))) = some (r, I1, A1) := hf
  refine lv_aload_n hx hb dX3_boat_0 rfl (lv_at hl 0 rfl) ?_
  obtain ⟨v1, h1, hf⟩ := ob1_e hf
  refine g_vR (ov := some (.int v1)) (D := D) (Sc := mS) (adc := ad) (Ic := I) (Ac := A) (Rc := nR) (Gc := nG) (As := []) (rest := []) (b := ad 99) (C := RX3) ⟨hx, hb, hml, hown, hts⟩ (m_isNone_met l D ad I A  v1 h1) (g_cwV 0 hts (lw_V q1446 q1448 qs53 q82 q1449) rfl rfl m_isNone_ds ⟨Nat.le_trans (Nat.le_of_ble_eq_true rfl) hRf, Nat.le_trans (Nat.le_of_ble_eq_true rfl) hRl⟩) (g_recv hK hW mO rfl) hK hW hcs rfl hl.1 rfl (Nat.le_of_ble_eq_true rfl) dX3_boat_1 ?_
  refine lv_if_eq (tgt := 10) hx hb dX3_boat_4 (by decide) (fun c2 => ?_) (fun c2 => ?_)
  · rw [if_pos c2] at hf
    refine lv_iload_n hx hb dX3_boat_10 rfl (lv_at hl 1 rfl) ?_
    refine lv_i2l (v := a0.toInt64) hx hb dX3_boat_11 rfl ?_
    refine lv_ldc2 (v := 20) hx hb hown (hts _ q1428) dX3_boat_12 ?_
    refine lv_ldc2 (v := 99) hx hb hown (hts _ q1429) dX3_boat_15 ?_
    obtain ⟨v3, h3, hf⟩ := ob1_e hf
    refine g_sR (ov := some (.int v3)) (D := D) (Sc := nS) (adc := ad) (Ic := (fun _ => 0)) (Ac := (fun _ _ => 0)) (Rc := nR) (Gc := nG) (As := [.long a0.toInt64, .long 20, .long 99]) (rest := []) ⟨hx, hb, hml, hown, hts⟩ (m_in_met l D ad a0.toInt64 20 99 v3 h3) (va_cwS 3 hts (lw_S q1294 q1295 q82 q1296) rfl rfl rfl m_in_ds.2 ⟨Nat.le_trans (Nat.le_of_ble_eq_true rfl) hRf, Nat.le_trans (Nat.le_of_ble_eq_true rfl) hRl⟩) hK WH_nil hcs rfl hl.1 rfl (Nat.le_of_ble_eq_true rfl) dX3_boat_18 ?_
    refine lv_if_ne (tgt := 27) hx hb dX3_boat_21 (by decide) (fun c4 => ?_) (fun c4 => ?_)
    · rw [if_neg c4] at hf
      refine lv_iconst (v := 1) hx hb dX3_boat_27 (by decide) ?_
      refine lv_aload_n hx hb dX3_boat_28 rfl (lv_at hl 0 rfl) ?_
      refine g_get (v := .ref (ad 0)) hx hb hts hown hK hW mO in_X3 rfl 0 (by decide) q1212 rfl rfl dX3_boat_29 ?_
      refine lv_bipush (v := 6) hx hb dX3_boat_32 (by decide) ?_
      obtain ⟨v5, hv5, hf⟩ := ob1_e hf
      refine g_iald hx hb hK hW mA0 hv5 dX3_boat_34 ?_
      refine lv_ishl hx hb dX3_boat_35 ?_
      refine lv_iconst (v := 1) hx hb dX3_boat_36 (by decide) ?_
      refine lv_isub hx hb dX3_boat_37 ?_
      refine lv_istore_n (lv' := [(2, .int (((1 : Int32) <<< (v5 &&& 31)) - 1)), (0, .ref (ad 99)), (1, .int a0)]) hx hb dX3_boat_38 rfl hl (by decide) rfl (fun ls hl => ?_)
      refine lv_aload_n hx hb dX3_boat_39 rfl (lv_at hl 1 rfl) ?_
      refine g_get (v := .ref (ad 20)) hx hb hts hown hK hW mO in_X3 rfl 20 (by decide) q1232 rfl rfl dX3_boat_40 ?_
      refine lv_iconst (v := 0) hx hb dX3_boat_43 (by decide) ?_
      refine lv_iconst (v := 0) hx hb dX3_boat_44 (by decide) ?_
      obtain ⟨f6, hf6, hf⟩ := ob1_e hf
      refine g_iast hx hb hK mwf hI hA hW hS mA20 hf6 dX3_boat_45 (fun H locs hW hS => ?_)
      refine lv_iconst (v := 1) hx hb dX3_boat_46 (by decide) ?_
      refine lv_istore_n (lv' := [(3, .int 1), (2, .int (((1 : Int32) <<< (v5 &&& 31)) - 1)), (0, .ref (ad 99)), (1, .int a0)]) hx hb dX3_boat_47 rfl hl (by decide) rfl (fun ls hl => ?_)
      obtain ⟨I7, A8, v9, hq9, hf⟩ := ob3_e hf
      refine m_boat_L48_w hx hb hml hown hts hK hRf hRl hcs hI a0 (((1 : Int32) <<< (v5 &&& 31)) - 1) I7 A8 v9 (fun H locs ls hW hS hl => ?_) NF I (va_up A 20 f6) 1 _ _ ls hq9 hW hS (lv_sub hl [2, 3, 1, 0] rfl)
      refine lv_aload_n hx hb dX3_boat_214 rfl (lv_at hl 0 rfl) ?_
      refine g_get (v := .ref (ad 20)) hx hb hts hown hK hW mO in_X3 rfl 20 (by decide) q1232 rfl rfl dX3_boat_215 ?_
      refine lv_iload_n hx hb dX3_boat_218 rfl (lv_at hl 1 rfl) ?_
      obtain ⟨v10, hv10, hf⟩ := ob1_e hf
      refine g_iald hx hb hK hW mA20 hv10 dX3_boat_219 ?_
      refine lv_ldc (v := 1000000000) hx hb hown (hts _ q1506) dX3_boat_220 ?_
      obtain ⟨v11, hm11, hf⟩ := ob1_e hf
      refine w_cutL (nL := 7) (L := []) (pcj := 236) (st := [.int v11]) (fun ls hl => ?_) (fun K11 => ?_)
      · obtain ⟨rfl, rfl, rfl⟩ := so3 hf
        exact W.iret hx hb hr (fun t ht _ => ⟨rfl, by rw [ht]; exact hW, hS.F ht⟩) hS.2.2 dX3_boat_236
      · refine lv_icmp_ne (tgt := 230) hx hb dX3_boat_222 (by decide) (fun c12 => ?_) (fun c12 => ?_)
        · rw [if_neg c12] at hm11
          refine lv_aload_n hx hb dX3_boat_230 rfl (lv_at hl 0 rfl) ?_
          refine g_get (v := .ref (ad 20)) hx hb hts hown hK hW mO in_X3 rfl 20 (by decide) q1232 rfl rfl dX3_boat_231 ?_
          refine lv_iload_n hx hb dX3_boat_234 rfl (lv_at hl 1 rfl) ?_
          obtain ⟨v13, hv13, hm11⟩ := ob1_e hm11
          refine g_iald hx hb hK hW mA20 hv13 dX3_boat_235 ?_
          obtain rfl := so1 hm11
          exact K11 ls (lv_sub hl [] rfl)
        · rw [if_pos c12] at hm11
          refine lv_ldc (v := (-1000000)) hx hb hown (hts _ q1492) dX3_boat_225 ?_
          refine lv_goto (tgt := 236) hx hb dX3_boat_227 (by decide) ?_
          obtain rfl := so1 hm11
          exact K11 ls (lv_sub hl [] rfl)
    · rw [if_pos c4] at hf
      refine lv_ldc (v := (-1000001)) hx hb hown (hts _ q1298) dX3_boat_24 ?_
      obtain ⟨rfl, rfl, rfl⟩ := so3 hf
      exact W.iret hx hb hr (fun t ht _ => ⟨rfl, by rw [ht]; exact hW, hS.F ht⟩) hS.2.2 dX3_boat_26
  · rw [if_neg c2] at hf
    refine lv_ldc (v := (-1000002)) hx hb hown (hts _ q1391) dX3_boat_7 ?_
    obtain ⟨rfl, rfl, rfl⟩ := so3 hf
    exact W.iret hx hb hr (fun t ht _ => ⟨rfl, by rw [ht]; exact hW, hS.F ht⟩) hS.2.2 dX3_boat_9
theorem m_boat_ds : yX3_boat.cls = RX3 ∧ yX3_boat.cls ≠ "java/lang/invoke/MethodHandle" ∧ yX3_boat.cls ≠ "java/lang/invoke/VarHandle" ∧ (parseMethodDescriptor yX3_boat.desc).map (fun d => d.parameters.length) = some 1 := by decide +kernel
