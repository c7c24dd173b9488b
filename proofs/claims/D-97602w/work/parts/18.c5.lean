/-! the system: trials -/
def x_frees_L50 (G : Nat → Nat → Option Nat) (pl n : Nat) (ks : Nat → Nat) (u1 : Int32) (u4 : Int32) : Nat → (Nat → Int32) → (Nat → Nat → Int32) → (Nat → Option Nat) → Int32 → Int32 → Int32 → Option ((Nat → Int32) × (Nat → Nat → Int32) × (Nat → Option Nat) × Int32 × Int32 × Int32)
  | 0, _, _, _, _, _, _ => none
  | k + 1, I, A, R, x2, x3, x5 =>
    ob1 (p_many (sh 200 I) (sh 200 A) (sh 200 R) pl n ks) fun (v1 : Int32) =>
    if v1 ≤ x5 then (some (I, A, R, x2, x3, x5)) else (ob1 (x_has (I 210) u4) fun (v3 : Int32) =>
      ob5 (if v3 = 0 then (ob1 (ldO (A 205) 8 u4) fun (v10 : Int32) =>
          if v10 = x5 then ((some (x2, x3, I, A, R) : Option (Int32 × Int32 × (Nat → Int32) × (Nat → Nat → Int32) × (Nat → Option Nat)))) else (ob1 (ldO (A 206) 8 u4) fun (v12 : Int32) =>
            if v12 = x5 then ((some (x2, x3, I, A, R) : Option (Int32 × Int32 × (Nat → Int32) × (Nat → Nat → Int32) × (Nat → Option Nat)))) else (ob3 (p_become (sl2 300 200 I) (sl2 300 200 A) (sl2 300 200 R)) fun (I14 : Nat → Int32) (A15 : Nat → Nat → Int32) (R16 : Nat → Option Nat) =>
              ob1 (stO ((mg 300 (mg 200 A (sh 100 A15)) A15) 305) 8 u4 x5) fun (f17 : Nat → Int32) =>
              ob1 (p_worst (sh 300 (mg 300 (mg 200 I (sh 100 I14)) I14)) (sh 300 (va_up (mg 300 (mg 200 A (sh 100 A15)) A15) 305 f17)) (sh 300 (mg 300 (mg 200 R (sh 100 R16)) R16)) pl n ks) fun (v18 : Int32) =>
              ob1 (if x3 ≤ v18 then ((some x2 : Option (Int32))) else ((some ((8 * u4) + x5) : Option (Int32)))) fun (v19 : Int32) =>
              (some (v19, mnI x3 v18, mg 300 (mg 200 I (sh 100 I14)) I14, va_up (mg 300 (mg 200 A (sh 100 A15)) A15) 305 f17, mg 300 (mg 200 R (sh 100 R16)) R16) : Option (Int32 × Int32 × (Nat → Int32) × (Nat → Nat → Int32) × (Nat → Option Nat)))))) else ((some (x2, x3, I, A, R) : Option (Int32 × Int32 × (Nat → Int32) × (Nat → Nat → Int32) × (Nat → Option Nat))))) fun (v4 : Int32) (v5 : Int32) (I6 : Nat → Int32) (A7 : Nat → Nat → Int32) (R8 : Nat → Option Nat) =>
      x_frees_L50 G pl n ks u1 u4 k I6 A7 R8 v4 v5 (x5 + 1))
set_option maxRecDepth 100000 in
set_option maxHeartbeats 4000000 in
theorem x_frees_L50_w {p : Program} {l : Launch} {e : Env} {R0 : Room} {s : State} {m : MethodId} {args : Array Value} {below : List Frame} {meth : Method} {c : Code} {cells slots : Nat} {Q : State → Prop} {D : dd_} {s0 : State} {ad : Nat → Nat} {X : va_W} {base : Nat} (hx : p.tables.exec = Jvm.exec) (hb : c.code = cX0_frees) (hml : c.maxLocals = 7) (hown : s.vm.findClass RX0 = some m.cls) (hts : ∀ w ∈ lw_all, w.before args s = true) (hK : Kx D s) (hY : s0.WarmedH s.vm) (h0 : ∀ w ∈ lw_tbl, va_Nw w s0) (hRf : 8 ≤ R0.frames) (hRl : 184 ≤ R0.locals) (hcs : cells ≤ R0.cells ∧ slots ≤ R0.slots) (hB0 : base ≤ s.heap.size) (hAP : AP xS ad X base) (G : Nat → Nat → Option Nat) (pl n : Nat) (ks : Nat → Nat) (u1 : Int32) (u4 : Int32) (hR : RegX D X pl n ks) (I9 : (Nat → Int32)) (A9 : (Nat → Nat → Int32)) (R9 : (Nat → Option Nat)) (y2 : Int32) (y3 : Int32) (y5 : Int32) (KX : ∀ (H : Heap) (locs : List Loc) (ls : Array Slot), WX D xS ad I9 A9 R9 G X H → va_S (upB base) s.heap H locs → lv_has ls 7 [(0, .ref (ad 199)), (1, .int u1), (2, .int y2), (3, .int y3), (4, .int u4)] → W p l e R0 s m args below meth c H locs cells slots Q (F0 m 170 ls [])) : ∀ (k : Nat) (I : (Nat → Int32)) (A : (Nat → Nat → Int32)) (R : (Nat → Option Nat)) (x2 : Int32) (x3 : Int32) (x5 : Int32) (H : Heap) (locs : List Loc) (ls : Array Slot), x_frees_L50 G pl n ks u1 u4 k I A R x2 x3 x5 = some (I9, A9, R9, y2, y3, y5) → WX D xS ad I A R G X H → va_S (upB base) s.heap H locs → lv_has ls 7 [(0, .ref (ad 199)), (1, .int u1), (2, .int x2), (3, .int x3), (4, .int u4), (5, .int x5)] → W p l e R0 s m args below meth c H locs cells slots Q (F0 m 50 ls []) := by
  intro k
  induction k with
  | zero =>
    intro I A R x2 x3 x5 H locs ls hf
    exact nomatch (show (none : Option ((Nat → Int32) × (Nat → Nat → Int32) × (Nat → Option Nat) × Int32 × Int32 × Int32)) = some (I9, A9, R9, y2, y3, y5) from hf)
  | succ k ih =>
    intro I A R x2 x3 x5 H locs ls hf hW hS hl
    have hf : (ob1 (p_many (sh 200 I) (sh 200 A) (sh 200 R) pl n ks) fun (v1 : Int32) =>
        if v1 ≤ x5 then (some (I, A, R, x2, x3, x5)) else (ob1 (x_has (I 210) u4) fun (v3 : Int32) =>
          ob5 (if v3 = 0 then (ob1 (ldO (A 205) 8 u4) fun (v10 : Int32) =>
              if v10 = x5 then ((some (x2, x3, I, A, R) : Option (Int32 × Int32 × (Nat → Int32) × (Nat → Nat → Int32) × (Nat → Option Nat)))) else (ob1 (ldO (A 206) 8 u4) fun (v12 : Int32) =>
                if v12 = x5 then ((some (x2, x3, I, A, R) : Option (Int32 × Int32 × (Nat → Int32) × (Nat → Nat → Int32) × (Nat → Option Nat)))) else (ob3 (p_become (sl2 300 200 I) (sl2 300 200 A) (sl2 300 200 R)) fun (I14 : Nat → Int32) (A15 : Nat → Nat → Int32) (R16 : Nat → Option Nat) =>
                  ob1 (stO ((mg 300 (mg 200 A (sh 100 A15)) A15) 305) 8 u4 x5) fun (f17 : Nat → Int32) =>
                  ob1 (p_worst (sh 300 (mg 300 (mg 200 I (sh 100 I14)) I14)) (sh 300 (va_up (mg 300 (mg 200 A (sh 100 A15)) A15) 305 f17)) (sh 300 (mg 300 (mg 200 R (sh 100 R16)) R16)) pl n ks) fun (v18 : Int32) =>
                  ob1 (if x3 ≤ v18 then ((some x2 : Option (Int32))) else ((some ((8 * u4) + x5) : Option (Int32)))) fun (v19 : Int32) =>
                  (some (v19, mnI x3 v18, mg 300 (mg 200 I (sh 100 I14)) I14, va_up (mg 300 (mg 200 A (sh 100 A15)) A15) 305 f17, mg 300 (mg 200 R (sh 100 R16)) R16) : Option (Int32 × Int32 × (Nat → Int32) × (Nat → Nat → Int32) × (Nat → Option Nat)))))) else ((some (x2, x3, I, A, R) : Option (Int32 × Int32 × (Nat → Int32) × (Nat → Nat → Int32) × (Nat → Option Nat))))) fun (v4 : Int32) (v5 : Int32) (I6 : Nat → Int32) (A7 : Nat → Nat → Int32) (R8 : Nat → Option Nat) =>
          x_frees_L50 G pl n ks u1 u4 k I6 A7 R8 v4 v5 (x5 + 1))) = some (I9, A9, R9, y2, y3, y5) := hf
    refine lv_iload hx hb dX0_frees_50 (lv_at hl 5 rfl) ?_
    refine lv_aload_n hx hb dX0_frees_52 rfl (lv_at hl 0 rfl) ?_
    refine x_get (v := .ref (ad 299)) hx hb hts hown hK hW xO199 in_X0 rfl 4 (by decide) q228 rfl rfl dX0_frees_53 ?_
    obtain ⟨v1, h1, hf⟩ := ob1_e hf
    refine x_vR (ov := some (.int v1)) (D := D) (s0 := s0) (Sc := pS) (adc := (sh 200 ad)) (Ic := (sh 200 I)) (Ac := (sh 200 A)) (Rc := (sh 200 R)) (Gc := nG) (Xc := (xr200 D ad I A R G X)) (base := base) (As := []) (rest := [.int x5]) (b := ad 299) (C := RX1) ⟨hx, hb, hml, hown, hts⟩ (p_many_met l D s0 h0 (sh 200 ad) (xr200 D ad I A R G X) base (sh 200 I) (sh 200 A) (sh 200 R) pl n ks (xrg200 hR)  v1 h1) (g_cwV 0 hts (lw_V q747 q602 q603 q77 q604) rfl rfl p_many_ds ⟨Nat.le_trans (Nat.le_of_ble_eq_true rfl) hRf, Nat.le_trans (Nat.le_of_ble_eq_true rfl) hRl⟩) (x_recv hK hW xO299 rfl) hK hY (Nat.le_trans hB0 hS.1) (xw200 hW) hcs rfl hl.1 rfl (Nat.le_of_ble_eq_true rfl) dX0_frees_56 ?_
    refine lv_icmp_ge (tgt := 170) hx hb dX0_frees_59 (by decide) (fun c2 => ?_) (fun c2 => ?_)
    · rw [if_pos c2] at hf
      obtain ⟨rfl, rfl, rfl, rfl, rfl, rfl⟩ := so6 hf
      exact KX _ _ ls hW hS (lv_sub hl [0, 1, 2, 3, 4] rfl)
    · rw [if_neg c2] at hf
      refine lv_aload_n hx hb dX0_frees_62 rfl (lv_at hl 0 rfl) ?_
      refine x_get (v := .ref (ad 299)) hx hb hts hown hK hW xO199 in_X0 rfl 4 (by decide) q228 rfl rfl dX0_frees_63 ?_
      refine x_get (v := .int (I 210)) hx hb hts hown hK hW xO299 in_X1 rfl 10 (by decide) q180 rfl rfl dX0_frees_66 ?_
      refine lv_iload hx hb dX0_frees_69 (lv_at hl 4 rfl) ?_
      obtain ⟨v3, h3, hf⟩ := ob1_e hf
      refine x_sR (ov := some (.int v3)) (D := D) (s0 := s0) (Sc := nS) (adc := ad) (Ic := (fun _ => 0)) (Ac := (fun _ _ => 0)) (Rc := nR) (Gc := nG) (Xc := []) (base := base) (As := [.int (I 210), .int u4]) (rest := []) ⟨hx, hb, hml, hown, hts⟩ (x_has_met l D s0 h0 ad [] base (I 210) u4 v3 h3) (va_cwS 2 hts (lw_S q853 q784 q76 q785) rfl rfl rfl x_has_ds.2 ⟨Nat.le_trans (Nat.le_of_ble_eq_true rfl) hRf, Nat.le_trans (Nat.le_of_ble_eq_true rfl) hRl⟩) hK hY (Nat.le_trans hB0 hS.1) WX_nil hcs rfl hl.1 rfl (Nat.le_of_ble_eq_true rfl) dX0_frees_71 ?_
      obtain ⟨v4, v5, I6, A7, R8, hm8, hf⟩ := ob5_e hf
      refine w_cutH (A0 := upB base) (H0 := s.heap) (X := WX D xS ad I6 A7 R8 G X) (nL := 7) (L := [(0, .ref (ad 199)), (1, .int u1), (2, .int v4), (3, .int v5), (4, .int u4), (5, .int x5)]) (pcj := 164) (st := []) (fun H locs ls hW hS hl => ?_) (fun K8 => ?_)
      · refine lv_iinc (v := x5 + 1) (lv' := [(5, .int (x5 + 1)), (0, .ref (ad 199)), (1, .int u1), (2, .int v4), (3, .int v5), (4, .int u4)]) hx hb dX0_frees_164 hl (k := 5) rfl (by rfl) (by decide) rfl (fun ls hl => ?_)
        refine lv_goto (tgt := 50) hx hb dX0_frees_167 (by decide) ?_
        exact ih I6 A7 R8 v4 v5 (x5 + 1) _ _ ls hf hW hS (lv_sub hl [1, 2, 3, 4, 5, 0] rfl)
      · refine lv_if_ne (tgt := 164) hx hb dX0_frees_74 (by decide) (fun c9 => ?_) (fun c9 => ?_)
        · rw [if_neg c9] at hm8
          obtain ⟨rfl, rfl, rfl, rfl, rfl⟩ := so5 hm8
          exact K8 _ _ ls hW hS (lv_sub hl [0, 1, 2, 3, 4, 5] rfl)
        · rw [if_pos c9] at hm8
          refine lv_aload_n hx hb dX0_frees_77 rfl (lv_at hl 0 rfl) ?_
          refine x_get (v := .ref (ad 299)) hx hb hts hown hK hW xO199 in_X0 rfl 4 (by decide) q228 rfl rfl dX0_frees_78 ?_
          refine x_get (v := .ref (ad 205)) hx hb hts hown hK hW xO299 in_X1 rfl 5 (by decide) q170 rfl rfl dX0_frees_81 ?_
          refine lv_iload hx hb dX0_frees_84 (lv_at hl 4 rfl) ?_
          obtain ⟨v10, hv10, hm8⟩ := ob1_e hm8
          refine x_iald hx hb hK hW xA205 hv10 dX0_frees_86 ?_
          refine lv_iload hx hb dX0_frees_87 (lv_at hl 5 rfl) ?_
          refine lv_icmp_eq (tgt := 164) hx hb dX0_frees_89 (by decide) (fun c11 => ?_) (fun c11 => ?_)
          · rw [if_pos c11] at hm8
            obtain ⟨rfl, rfl, rfl, rfl, rfl⟩ := so5 hm8
            exact K8 _ _ ls hW hS (lv_sub hl [0, 1, 2, 3, 4, 5] rfl)
          · rw [if_neg c11] at hm8
            refine lv_aload_n hx hb dX0_frees_92 rfl (lv_at hl 0 rfl) ?_
            refine x_get (v := .ref (ad 299)) hx hb hts hown hK hW xO199 in_X0 rfl 4 (by decide) q228 rfl rfl dX0_frees_93 ?_
            refine x_get (v := .ref (ad 206)) hx hb hts hown hK hW xO299 in_X1 rfl 6 (by decide) q172 rfl rfl dX0_frees_96 ?_
            refine lv_iload hx hb dX0_frees_99 (lv_at hl 4 rfl) ?_
            obtain ⟨v12, hv12, hm8⟩ := ob1_e hm8
            refine x_iald hx hb hK hW xA206 hv12 dX0_frees_101 ?_
            refine lv_iload hx hb dX0_frees_102 (lv_at hl 5 rfl) ?_
            refine lv_icmp_ne (tgt := 110) hx hb dX0_frees_104 (by decide) (fun c13 => ?_) (fun c13 => ?_)
            · rw [if_neg c13] at hm8
              refine lv_aload_n hx hb dX0_frees_110 rfl (lv_at hl 0 rfl) ?_
              refine x_get (v := .ref (ad 399)) hx hb hts hown hK hW xO199 in_X0 rfl 5 (by decide) q229 rfl rfl dX0_frees_111 ?_
              refine lv_aload_n hx hb dX0_frees_114 rfl (lv_at hl 0 rfl) ?_
              refine x_get (v := .ref (ad 299)) hx hb hts hown hK hW xO199 in_X0 rfl 4 (by decide) q228 rfl rfl dX0_frees_115 ?_
              obtain ⟨I14, A15, R16, h16, hm8⟩ := ob3_e hm8
              refine x_vW (ov := some (.ref (ad 399))) (D := D) (s0 := s0) (Sc := p2S) (adc := sl2 300 200 ad) (Ic := (sl2 300 200 I)) (Ac := (sl2 300 200 A)) (Rc := (sl2 300 200 R)) (Gc := nG) (Xc := (xq D ad I A R G X)) (base := base) (As := [.ref (ad 299)]) (rest := []) (Ic1 := I14) (Ac1 := A15) (Rc1 := R16) (Gc1 := nG) (Xc1 := (xq D ad I A R G X)) (b := ad 399) (C := RX1) ⟨hx, hb, hml, hown, hts⟩ (p_become_met l D s0 h0 (sl2 300 200 ad) (xq D ad I A R G X) base (xqap hAP) (sl2 300 200 I) (sl2 300 200 A) (sl2 300 200 R) I14 A15 R16 h16) (g_cwV 1 hts (lw_V q742 q743 q744 q77 q745) rfl rfl p_become_ds ⟨Nat.le_trans (Nat.le_of_ble_eq_true rfl) hRf, Nat.le_trans (Nat.le_of_ble_eq_true rfl) hRl⟩) (x_recv hK hW xO399 rfl) hK hY (Nat.le_trans hB0 hS.1) (xqw hW) hS hcs rfl hl.1 rfl (Nat.le_of_ble_eq_true rfl) dX0_frees_118 (fun H locs hW hS => ?_)
              have hW : WX D xS ad (mg 300 (mg 200 I (sh 100 I14)) I14) (mg 300 (mg 200 A (sh 100 A15)) A15) (mg 300 (mg 200 R (sh 100 R16)) R16) G X H := xqu hW
              refine x_get (v := .ref (ad 305)) hx hb hts hown hK hW xO399 in_X1 rfl 5 (by decide) q170 rfl rfl dX0_frees_121 ?_
              refine lv_iload hx hb dX0_frees_124 (lv_at hl 4 rfl) ?_
              refine lv_iload hx hb dX0_frees_126 (lv_at hl 5 rfl) ?_
              obtain ⟨f17, hf17, hm8⟩ := ob1_e hm8
              refine x_iast hx hb hK xwf hAP hW hS xA305 hf17 dX0_frees_128 (fun H locs hW hS => ?_)
              refine lv_aload_n hx hb dX0_frees_129 rfl (lv_at hl 0 rfl) ?_
              refine x_get (v := .ref (ad 399)) hx hb hts hown hK hW xO199 in_X0 rfl 5 (by decide) q229 rfl rfl dX0_frees_130 ?_
              obtain ⟨v18, h18, hm8⟩ := ob1_e hm8
              refine x_vR (ov := some (.int v18)) (D := D) (s0 := s0) (Sc := pS) (adc := (sh 300 ad)) (Ic := (sh 300 (mg 300 (mg 200 I (sh 100 I14)) I14))) (Ac := (sh 300 (va_up (mg 300 (mg 200 A (sh 100 A15)) A15) 305 f17))) (Rc := (sh 300 (mg 300 (mg 200 R (sh 100 R16)) R16))) (Gc := nG) (Xc := (xr300 D ad (mg 300 (mg 200 I (sh 100 I14)) I14) (va_up (mg 300 (mg 200 A (sh 100 A15)) A15) 305 f17) (mg 300 (mg 200 R (sh 100 R16)) R16) G X)) (base := base) (As := []) (rest := []) (b := ad 399) (C := RX1) ⟨hx, hb, hml, hown, hts⟩ (p_worst_met l D s0 h0 (sh 300 ad) (xr300 D ad (mg 300 (mg 200 I (sh 100 I14)) I14) (va_up (mg 300 (mg 200 A (sh 100 A15)) A15) 305 f17) (mg 300 (mg 200 R (sh 100 R16)) R16) G X) base (sh 300 (mg 300 (mg 200 I (sh 100 I14)) I14)) (sh 300 (va_up (mg 300 (mg 200 A (sh 100 A15)) A15) 305 f17)) (sh 300 (mg 300 (mg 200 R (sh 100 R16)) R16)) pl n ks (xrg300 hR)  v18 h18) (g_cwV 0 hts (lw_V q946 q947 q948 q77 q949) rfl rfl p_worst_ds ⟨Nat.le_trans (Nat.le_of_ble_eq_true rfl) hRf, Nat.le_trans (Nat.le_of_ble_eq_true rfl) hRl⟩) (x_recv hK hW xO399 rfl) hK hY (Nat.le_trans hB0 hS.1) (xw300 hW) hcs rfl hl.1 rfl (Nat.le_of_ble_eq_true rfl) dX0_frees_133 ?_
              refine lv_istore (lv' := [(6, .int v18), (0, .ref (ad 199)), (1, .int u1), (2, .int x2), (3, .int x3), (4, .int u4), (5, .int x5)]) hx hb dX0_frees_136 hl (by decide) rfl (fun ls hl => ?_)
              refine lv_iload hx hb dX0_frees_138 (lv_at hl 0 rfl) ?_
              refine lv_iload_n hx hb dX0_frees_140 rfl (lv_at hl 4 rfl) ?_
              obtain ⟨v19, hm19, hm8⟩ := ob1_e hm8
              refine w_cutL (nL := 7) (L := [(0, .ref (ad 199)), (1, .int u1), (3, .int x3), (4, .int u4), (5, .int x5), (6, .int v18)]) (pcj := 156) (st := [.int v19]) (fun ls hl => ?_) (fun K19 => ?_)
              · refine lv_istore_n (lv' := [(2, .int v19), (0, .ref (ad 199)), (1, .int u1), (3, .int x3), (4, .int u4), (5, .int x5), (6, .int v18)]) hx hb dX0_frees_156 rfl hl (by decide) rfl (fun ls hl => ?_)
                refine lv_iload_n hx hb dX0_frees_157 rfl (lv_at hl 3 rfl) ?_
                refine lv_iload hx hb dX0_frees_158 (lv_at hl 6 rfl) ?_
                refine x_min hx hb hml hl.1 hts hown q951 (Nat.le_trans (Nat.le_of_ble_eq_true rfl) hRf) (Nat.le_trans (Nat.le_of_ble_eq_true rfl) hRl) hcs dX0_frees_160 ?_
                refine lv_istore_n (lv' := [(3, .int (mnI x3 v18)), (2, .int v19), (0, .ref (ad 199)), (1, .int u1), (4, .int u4), (5, .int x5), (6, .int v18)]) hx hb dX0_frees_163 rfl hl (by decide) rfl (fun ls hl => ?_)
                obtain ⟨rfl, rfl, rfl, rfl, rfl⟩ := so5 hm8
                exact K8 _ _ ls hW hS (lv_sub hl [2, 3, 1, 0, 4, 5] rfl)
              · refine lv_icmp_ge (tgt := 155) hx hb dX0_frees_141 (by decide) (fun c20 => ?_) (fun c20 => ?_)
                · rw [if_pos c20] at hm19
                  refine lv_iload_n hx hb dX0_frees_155 rfl (lv_at hl 3 rfl) ?_
                  obtain rfl := so1 hm19
                  exact K19 ls (lv_sub hl [1, 2, 4, 5, 6, 0] rfl)
                · rw [if_neg c20] at hm19
                  refine lv_bipush (v := 8) hx hb dX0_frees_144 (by decide) ?_
                  refine lv_iload hx hb dX0_frees_146 (lv_at hl 5 rfl) ?_
                  refine lv_imul hx hb dX0_frees_148 ?_
                  refine lv_iload hx hb dX0_frees_149 (lv_at hl 6 rfl) ?_
                  refine lv_iadd hx hb dX0_frees_151 ?_
                  refine lv_goto (tgt := 156) hx hb dX0_frees_152 (by decide) ?_
                  obtain rfl := so1 hm19
                  exact K19 ls (lv_sub hl [1, 2, 4, 5, 6, 0] rfl)
            · rw [if_pos c13] at hm8
              refine lv_goto (tgt := 164) hx hb dX0_frees_107 (by decide) ?_
              obtain ⟨rfl, rfl, rfl, rfl, rfl⟩ := so5 hm8
              exact K8 _ _ ls hW hS (lv_sub hl [0, 1, 2, 3, 4, 5] rfl)
def x_frees_L35 (G : Nat → Nat → Option Nat) (pl n : Nat) (ks : Nat → Nat) (u1 : Int32) : Nat → (Nat → Int32) → (Nat → Nat → Int32) → (Nat → Option Nat) → Int32 → Int32 → Int32 → Option ((Nat → Int32) × (Nat → Nat → Int32) × (Nat → Option Nat) × Int32 × Int32 × Int32)
  | 0, _, _, _, _, _, _ => none
  | k + 1, I, A, R, x2, x3, x4 =>
    if (I 204) ≤ x4 then (some (I, A, R, x2, x3, x4)) else (ob6 (x_frees_L50 G pl n ks u1 x4 NF I A R x2 x3 0) fun (I2 : Nat → Int32) (A3 : Nat → Nat → Int32) (R4 : Nat → Option Nat) (v5 : Int32) (v6 : Int32) (v7 : Int32) =>
      x_frees_L35 G pl n ks u1 k I2 A3 R4 v5 v6 (x4 + 1))
set_option maxRecDepth 100000 in
set_option maxHeartbeats 4000000 in
theorem x_frees_L35_w {p : Program} {l : Launch} {e : Env} {R0 : Room} {s : State} {m : MethodId} {args : Array Value} {below : List Frame} {meth : Method} {c : Code} {cells slots : Nat} {Q : State → Prop} {D : dd_} {s0 : State} {ad : Nat → Nat} {X : va_W} {base : Nat} (hx : p.tables.exec = Jvm.exec) (hb : c.code = cX0_frees) (hml : c.maxLocals = 7) (hown : s.vm.findClass RX0 = some m.cls) (hts : ∀ w ∈ lw_all, w.before args s = true) (hK : Kx D s) (hY : s0.WarmedH s.vm) (h0 : ∀ w ∈ lw_tbl, va_Nw w s0) (hRf : 8 ≤ R0.frames) (hRl : 184 ≤ R0.locals) (hcs : cells ≤ R0.cells ∧ slots ≤ R0.slots) (hB0 : base ≤ s.heap.size) (hAP : AP xS ad X base) (G : Nat → Nat → Option Nat) (pl n : Nat) (ks : Nat → Nat) (u1 : Int32) (hR : RegX D X pl n ks) (I9 : (Nat → Int32)) (A9 : (Nat → Nat → Int32)) (R9 : (Nat → Option Nat)) (y2 : Int32) (y3 : Int32) (y4 : Int32) (KX : ∀ (H : Heap) (locs : List Loc) (ls : Array Slot), WX D xS ad I9 A9 R9 G X H → va_S (upB base) s.heap H locs → lv_has ls 7 [(1, .int u1), (2, .int y2), (3, .int y3)] → W p l e R0 s m args below meth c H locs cells slots Q (F0 m 176 ls [])) : ∀ (k : Nat) (I : (Nat → Int32)) (A : (Nat → Nat → Int32)) (R : (Nat → Option Nat)) (x2 : Int32) (x3 : Int32) (x4 : Int32) (H : Heap) (locs : List Loc) (ls : Array Slot), x_frees_L35 G pl n ks u1 k I A R x2 x3 x4 = some (I9, A9, R9, y2, y3, y4) → WX D xS ad I A R G X H → va_S (upB base) s.heap H locs → lv_has ls 7 [(0, .ref (ad 199)), (1, .int u1), (2, .int x2), (3, .int x3), (4, .int x4)] → W p l e R0 s m args below meth c H locs cells slots Q (F0 m 35 ls []) := by
  intro k
  induction k with
  | zero =>
    intro I A R x2 x3 x4 H locs ls hf
    exact nomatch (show (none : Option ((Nat → Int32) × (Nat → Nat → Int32) × (Nat → Option Nat) × Int32 × Int32 × Int32)) = some (I9, A9, R9, y2, y3, y4) from hf)
  | succ k ih =>
    intro I A R x2 x3 x4 H locs ls hf hW hS hl
    have hf : (if (I 204) ≤ x4 then (some (I, A, R, x2, x3, x4)) else (ob6 (x_frees_L50 G pl n ks u1 x4 NF I A R x2 x3 0) fun (I2 : Nat → Int32) (A3 : Nat → Nat → Int32) (R4 : Nat → Option Nat) (v5 : Int32) (v6 : Int32) (v7 : Int32) =>
          x_frees_L35 G pl n ks u1 k I2 A3 R4 v5 v6 (x4 + 1))) = some (I9, A9, R9, y2, y3, y4) := hf
    refine lv_iload hx hb dX0_frees_35 (lv_at hl 4 rfl) ?_
    refine lv_aload_n hx hb dX0_frees_37 rfl (lv_at hl 0 rfl) ?_
    refine x_get (v := .ref (ad 299)) hx hb hts hown hK hW xO199 in_X0 rfl 4 (by decide) q228 rfl rfl dX0_frees_38 ?_
    refine x_get (v := .int (I 204)) hx hb hts hown hK hW xO299 in_X1 rfl 4 (by decide) q168 rfl rfl dX0_frees_41 ?_
    refine lv_icmp_ge (tgt := 176) hx hb dX0_frees_44 (by decide) (fun c1 => ?_) (fun c1 => ?_)
    · rw [if_pos c1] at hf
      obtain ⟨rfl, rfl, rfl, rfl, rfl, rfl⟩ := so6 hf
      exact KX _ _ ls hW hS (lv_sub hl [1, 2, 3] rfl)
    · rw [if_neg c1] at hf
      refine lv_iconst (v := 0) hx hb dX0_frees_47 (by decide) ?_
      refine lv_istore (lv' := [(5, .int 0), (0, .ref (ad 199)), (1, .int u1), (2, .int x2), (3, .int x3), (4, .int x4)]) hx hb dX0_frees_48 hl (by decide) rfl (fun ls hl => ?_)
      obtain ⟨I2, A3, R4, v5, v6, v7, hq7, hf⟩ := ob6_e hf
      refine x_frees_L50_w hx hb hml hown hts hK hY h0 hRf hRl hcs hB0 hAP G pl n ks u1 x4 hR I2 A3 R4 v5 v6 v7 (fun H locs ls hW hS hl => ?_) NF I A R x2 x3 0 _ _ ls hq7 hW hS (lv_sub hl [1, 2, 3, 4, 5, 0] rfl)
      refine lv_iinc (v := x4 + 1) (lv' := [(4, .int (x4 + 1)), (0, .ref (ad 199)), (1, .int u1), (2, .int v5), (3, .int v6)]) hx hb dX0_frees_170 hl (k := 4) rfl (by rfl) (by decide) rfl (fun ls hl => ?_)
      refine lv_goto (tgt := 35) hx hb dX0_frees_173 (by decide) ?_
      exact ih I2 A3 R4 v5 v6 (x4 + 1) _ _ ls hf hW hS (lv_sub hl [1, 2, 3, 4, 0] rfl)
def x_frees (I : Nat → Int32) (A : Nat → Nat → Int32) (R : Nat → Option Nat) (G : Nat → Nat → Option Nat) (pl n : Nat) (ks : Nat → Nat) (a0 : Int32) : Option (Int32 × (Nat → Int32) × (Nat → Nat → Int32) × (Nat → Option Nat)) :=
  ob1 (x_isParish I A R G pl n ks) fun (v1 : Int32) =>
  if v1 = 0 then (some ((-1000002), I, A, R)) else (ob1 (x_isHalf a0) fun (v3 : Int32) =>
    if v3 = 0 then (some ((-1000001), I, A, R)) else (ob1 (p_worst (sh 200 I) (sh 200 A) (sh 200 R) pl n ks) fun (v5 : Int32) =>
      ob6 (x_frees_L35 G pl n ks a0 NF I A R (-1000000) v5 0) fun (I6 : Nat → Int32) (A7 : Nat → Nat → Int32) (R8 : Nat → Option Nat) (v9 : Int32) (v10 : Int32) (v11 : Int32) =>
      ob1 (if a0 = 0 then ((some v9 : Option (Int32))) else ((some v10 : Option (Int32)))) fun (v12 : Int32) =>
      some (v12, I6, A7, R8)))
set_option maxRecDepth 100000 in
set_option maxHeartbeats 4000000 in
theorem x_frees_met (l : Launch) (D : dd_) (s0 : State) (h0 : ∀ w ∈ lw_tbl, va_Nw w s0) (ad : Nat → Nat) (X : va_W) (base : Nat) (hAP : AP xS ad X base) (I : Nat → Int32) (A : Nat → Nat → Int32) (R : Nat → Option Nat) (G : Nat → Nat → Option Nat) (pl n : Nat) (ks : Nat → Nat) (hR : RegX D X pl n ks) (a0 : Int32) (r : Int32) (I1 : (Nat → Int32)) (A1 : (Nat → Nat → Int32)) (R1 : (Nat → Option Nat)) (hf : x_frees I A R G pl n ks a0 = some (r, I1, A1, R1)) : Met l yX0_frees (ws_ yX0_frees cX0_frees 7 (some .int)) ({ frames := 8, cells := 0, slots := 0, locals := 184 }) (PcX D s0 xS ad I A R G X base [.ref (ad 199), .int a0]) (QcX D xS ad I1 A1 R1 G X base (some (.int r))) 0 0 (upB base) := by
  refine Met.ofW (cc := cX0_frees) (maxL := 7) (ret := (some .int)) (by decide) rfl ?_
  intro p e s m args below meth c s₁ B hml hv
  obtain ⟨rfl, hK, hY, hB0, hW⟩ := hv
  have hx := B.exec
  have hb := B.bytes
  have hr := B.returns
  have hts := atoms_spec (ws := (ws_ yX0_frees cX0_frees 7 (some .int))) B.pre
  have hts : ∀ w ∈ lw_all, w.before _ s = true := fun w h => hts w (List.mem_cons_of_mem _ h)
  have hown : s.vm.findClass RX0 = some m.cls := findClass_of_methodNamed B.named
  have hlocks := B.notSynchronized
  have hRf : 8 ≤ (headSpec (ws_ yX0_frees cX0_frees 7 (some .int)) ({ frames := 8, cells := 0, slots := 0, locals := 184 })).room.frames := Nat.le_refl _
  have hRl : 184 ≤ (headSpec (ws_ yX0_frees cX0_frees 7 (some .int)) ({ frames := 8, cells := 0, slots := 0, locals := 184 })).room.locals := Nat.le_refl _
  have hcs : 0 ≤ (headSpec (ws_ yX0_frees cX0_frees 7 (some .int)) ({ frames := 8, cells := 0, slots := 0, locals := 184 })).room.cells ∧ 0 ≤ (headSpec (ws_ yX0_frees cX0_frees 7 (some .int)) ({ frames := 8, cells := 0, slots := 0, locals := 184 })).room.slots := ⟨Nat.zero_le _, Nat.zero_le _⟩
  have hS : va_S (upB base) s.heap s.heap [] := va_S.rf
  have hl := lv_entry ([.ref (ad 199), .int a0]) (n := 7) (Nat.le_of_ble_eq_true rfl)
  rw [lg_entry_eq]
  generalize (lg_sl ([.ref (ad 199), .int a0]) ++ List.replicate (7 - (lg_sl ([.ref (ad 199), .int a0])).length) Slot.unset).toArray = ls at hl ⊢
  have hl : lv_has ls 7 [(0, .ref (ad 199)), (1, .int a0)] := hl
  have hf : (ob1 (x_isParish I A R G pl n ks) fun (v1 : Int32) =>
    if v1 = 0 then (some ((-1000002), I, A, R)) else (ob1 (x_isHalf a0) fun (v3 : Int32) =>
      if v3 = 0 then (some ((-1000001), I, A, R)) else (ob1 (p_worst (sh 200 I) (sh 200 A) (sh 200 R) pl n ks) fun (v5 : Int32) =>
        ob6 (x_frees_L35 G pl n ks a0 NF I A R (-1000000) v5 0) fun (I6 : Nat → Int32) (A7 : Nat → Nat → Int32) (R8 : Nat → Option Nat) (v9 : Int32) (v10 : Int32) (v11 : Int32) =>
        ob1 (if a0 = 0 then ((some v9 : Option (Int32))) else ((some v10 : Option (Int32)))) fun (v12 : Int32) =>
        some (v12, I6, A7, R8)))) = some (r, I1, A1, R1) := hf
  refine lv_aload_n hx hb dX0_frees_0 rfl (lv_at hl 0 rfl) ?_
  obtain ⟨v1, h1, hf⟩ := ob1_e hf
  refine x_vR (ov := some (.int v1)) (D := D) (s0 := s0) (Sc := xS) (adc := ad) (Ic := I) (Ac := A) (Rc := R) (Gc := G) (Xc := X) (base := base) (As := []) (rest := []) (b := ad 199) (C := RX0) ⟨hx, hb, hml, hown, hts⟩ (x_isParish_met l D s0 h0 ad X base I A R G pl n ks hR  v1 h1) (g_cwV 0 hts (lw_V q863 q865 qs21 q76 q866) rfl rfl x_isParish_ds ⟨Nat.le_trans (Nat.le_of_ble_eq_true rfl) hRf, Nat.le_trans (Nat.le_of_ble_eq_true rfl) hRl⟩) (x_recv hK hW xO199 rfl) hK hY (Nat.le_trans hB0 hS.1) hW hcs rfl hl.1 rfl (Nat.le_of_ble_eq_true rfl) dX0_frees_1 ?_
  refine lv_if_ne (tgt := 10) hx hb dX0_frees_4 (by decide) (fun c2 => ?_) (fun c2 => ?_)
  · rw [if_neg c2] at hf
    refine lv_iload_n hx hb dX0_frees_10 rfl (lv_at hl 1 rfl) ?_
    obtain ⟨v3, h3, hf⟩ := ob1_e hf
    refine x_sR (ov := some (.int v3)) (D := D) (s0 := s0) (Sc := nS) (adc := ad) (Ic := (fun _ => 0)) (Ac := (fun _ _ => 0)) (Rc := nR) (Gc := nG) (Xc := []) (base := base) (As := [.int a0]) (rest := []) ⟨hx, hb, hml, hown, hts⟩ (x_isHalf_met l D s0 h0 ad [] base a0 v3 h3) (va_cwS 1 hts (lw_S q910 q911 q76 q912) rfl rfl rfl x_isHalf_ds.2 ⟨Nat.le_trans (Nat.le_of_ble_eq_true rfl) hRf, Nat.le_trans (Nat.le_of_ble_eq_true rfl) hRl⟩) hK hY (Nat.le_trans hB0 hS.1) WX_nil hcs rfl hl.1 rfl (Nat.le_of_ble_eq_true rfl) dX0_frees_11 ?_
    refine lv_if_ne (tgt := 20) hx hb dX0_frees_14 (by decide) (fun c4 => ?_) (fun c4 => ?_)
    · rw [if_neg c4] at hf
      refine lv_ldcw (v := (-1000000)) hx hb hown (hts _ q941) dX0_frees_20 ?_
      refine lv_istore_n (lv' := [(2, .int (-1000000)), (0, .ref (ad 199)), (1, .int a0)]) hx hb dX0_frees_23 rfl hl (by decide) rfl (fun ls hl => ?_)
      refine lv_aload_n hx hb dX0_frees_24 rfl (lv_at hl 1 rfl) ?_
      refine x_get (v := .ref (ad 299)) hx hb hts hown hK hW xO199 in_X0 rfl 4 (by decide) q228 rfl rfl dX0_frees_25 ?_
      obtain ⟨v5, h5, hf⟩ := ob1_e hf
      refine x_vR (ov := some (.int v5)) (D := D) (s0 := s0) (Sc := pS) (adc := (sh 200 ad)) (Ic := (sh 200 I)) (Ac := (sh 200 A)) (Rc := (sh 200 R)) (Gc := nG) (Xc := (xr200 D ad I A R G X)) (base := base) (As := []) (rest := []) (b := ad 299) (C := RX1) ⟨hx, hb, hml, hown, hts⟩ (p_worst_met l D s0 h0 (sh 200 ad) (xr200 D ad I A R G X) base (sh 200 I) (sh 200 A) (sh 200 R) pl n ks (xrg200 hR)  v5 h5) (g_cwV 0 hts (lw_V q946 q947 q948 q77 q949) rfl rfl p_worst_ds ⟨Nat.le_trans (Nat.le_of_ble_eq_true rfl) hRf, Nat.le_trans (Nat.le_of_ble_eq_true rfl) hRl⟩) (x_recv hK hW xO299 rfl) hK hY (Nat.le_trans hB0 hS.1) (xw200 hW) hcs rfl hl.1 rfl (Nat.le_of_ble_eq_true rfl) dX0_frees_28 ?_
      refine lv_istore_n (lv' := [(3, .int v5), (2, .int (-1000000)), (0, .ref (ad 199)), (1, .int a0)]) hx hb dX0_frees_31 rfl hl (by decide) rfl (fun ls hl => ?_)
      refine lv_iconst (v := 0) hx hb dX0_frees_32 (by decide) ?_
      refine lv_istore (lv' := [(4, .int 0), (3, .int v5), (2, .int (-1000000)), (0, .ref (ad 199)), (1, .int a0)]) hx hb dX0_frees_33 hl (by decide) rfl (fun ls hl => ?_)
      obtain ⟨I6, A7, R8, v9, v10, v11, hq11, hf⟩ := ob6_e hf
      refine x_frees_L35_w hx hb hml hown hts hK hY h0 hRf hRl hcs hB0 hAP G pl n ks a0 hR I6 A7 R8 v9 v10 v11 (fun H locs ls hW hS hl => ?_) NF I A R (-1000000) v5 0 _ _ ls hq11 hW hS (lv_sub hl [3, 4, 2, 1, 0] rfl)
      refine lv_iload_n hx hb dX0_frees_176 rfl (lv_at hl 0 rfl) ?_
      obtain ⟨v12, hm12, hf⟩ := ob1_e hf
      refine w_cutL (nL := 7) (L := []) (pcj := 185) (st := [.int v12]) (fun ls hl => ?_) (fun K12 => ?_)
      · obtain ⟨rfl, rfl, rfl, rfl⟩ := so4 hf
        exact W.iret hx hb hr (fun t ht _ => ⟨rfl, by rw [ht]; exact hW, hS.F ht⟩) hS.2.2 dX0_frees_185
      · refine lv_if_ne (tgt := 184) hx hb dX0_frees_177 (by decide) (fun c13 => ?_) (fun c13 => ?_)
        · rw [if_neg c13] at hm12
          refine lv_iload_n hx hb dX0_frees_184 rfl (lv_at hl 2 rfl) ?_
          obtain rfl := so1 hm12
          exact K12 ls (lv_sub hl [] rfl)
        · rw [if_pos c13] at hm12
          refine lv_iload_n hx hb dX0_frees_180 rfl (lv_at hl 1 rfl) ?_
          refine lv_goto (tgt := 185) hx hb dX0_frees_181 (by decide) ?_
          obtain rfl := so1 hm12
          exact K12 ls (lv_sub hl [] rfl)
    · rw [if_pos c4] at hf
      refine lv_ldc (v := (-1000001)) hx hb hown (hts _ q289) dX0_frees_17 ?_
      obtain ⟨rfl, rfl, rfl, rfl⟩ := so4 hf
      exact W.iret hx hb hr (fun t ht _ => ⟨rfl, by rw [ht]; exact hW, hS.F ht⟩) hS.2.2 dX0_frees_19
  · rw [if_pos c2] at hf
    refine lv_ldc (v := (-1000002)) hx hb hown (hts _ q756) dX0_frees_7 ?_
    obtain ⟨rfl, rfl, rfl, rfl⟩ := so4 hf
    exact W.iret hx hb hr (fun t ht _ => ⟨rfl, by rw [ht]; exact hW, hS.F ht⟩) hS.2.2 dX0_frees_9
theorem x_frees_ds : yX0_frees.cls = RX0 ∧ yX0_frees.cls ≠ "java/lang/invoke/MethodHandle" ∧ yX0_frees.cls ≠ "java/lang/invoke/VarHandle" ∧ (parseMethodDescriptor yX0_frees.desc).map (fun d => d.parameters.length) = some 1 := by decide +kernel
def x_year_L63 (R : Nat → Option Nat) (G : Nat → Nat → Option Nat) (pl n : Nat) (ks : Nat → Nat) (u1 : Int32) (u3 : Int32) : Nat → (Nat → Int32) → (Nat → Nat → Int32) → Int64 → Int32 → Option ((Nat → Int32) × (Nat → Nat → Int32) × Int64 × Int32)
  | 0, _, _, _, _ => none
  | k + 1, I, A, x4, x6 =>
    if u1 ≤ x6 then (some (I, A, x4, x6)) else (ob1 (lremO (x4 * 16807) 2147483647) fun (w2 : Int64) =>
      ob1 (p_many (sh 200 I) (sh 200 A) (sh 200 R) pl n ks) fun (v3 : Int32) =>
      ob1 (lremO w2 v3.toInt64) fun (w4 : Int64) =>
      ob1 (lremO w2 2) fun (w5 : Int64) =>
      ob1 (if (lg_cmp w5 0) = 0 then ((some 1 : Option (Int32))) else ((some (-1) : Option (Int32)))) fun (v6 : Int32) =>
      ob1 (ldO (A 303) 5 w4.toInt32) fun (v8 : Int32) =>
      ob1 (p_mayWalk (sh 300 I) (sh 300 A) (sh 300 R) pl n ks w4.toInt32 v6) fun (v9 : Int32) =>
      ob1 (if v9 = 0 then ((some 0 : Option (Int32))) else ((some v6 : Option (Int32)))) fun (v10 : Int32) =>
      ob1 (stO (A 303) 5 w4.toInt32 (v8 + v10)) fun (f12 : Nat → Int32) =>
      ob2 (p_pass (sh 300 I) (sh 300 (va_up A 303 f12)) (sh 300 R) pl n ks) fun (I13 : Nat → Int32) (A14 : Nat → Nat → Int32) =>
      x_year_L63 R G pl n ks u1 u3 k (mg 300 I I13) (mg 300 (va_up A 303 f12) A14) w2 (x6 + 1))
set_option maxRecDepth 100000 in
set_option maxHeartbeats 4000000 in
theorem x_year_L63_w {p : Program} {l : Launch} {e : Env} {R0 : Room} {s : State} {m : MethodId} {args : Array Value} {below : List Frame} {meth : Method} {c : Code} {cells slots : Nat} {Q : State → Prop} {D : dd_} {s0 : State} {ad : Nat → Nat} {X : va_W} {base : Nat} (hx : p.tables.exec = Jvm.exec) (hb : c.code = cX0_year) (hml : c.maxLocals = 9) (hown : s.vm.findClass RX0 = some m.cls) (hts : ∀ w ∈ lw_all, w.before args s = true) (hK : Kx D s) (hY : s0.WarmedH s.vm) (h0 : ∀ w ∈ lw_tbl, va_Nw w s0) (hRf : 8 ≤ R0.frames) (hRl : 185 ≤ R0.locals) (hcs : cells ≤ R0.cells ∧ slots ≤ R0.slots) (hB0 : base ≤ s.heap.size) (hAP : AP xS ad X base) (R : Nat → Option Nat) (G : Nat → Nat → Option Nat) (pl n : Nat) (ks : Nat → Nat) (u1 : Int32) (u3 : Int32) (hR : RegX D X pl n ks) (I9 : (Nat → Int32)) (A9 : (Nat → Nat → Int32)) (y4 : Int64) (y6 : Int32) (KX : ∀ (H : Heap) (locs : List Loc) (ls : Array Slot), WX D xS ad I9 A9 R G X H → va_S (upB base) s.heap H locs → lv_has ls 9 [(0, .ref (ad 199)), (3, .int u3)] → W p l e R0 s m args below meth c H locs cells slots Q (F0 m 159 ls [])) : ∀ (k : Nat) (I : (Nat → Int32)) (A : (Nat → Nat → Int32)) (x4 : Int64) (x6 : Int32) (H : Heap) (locs : List Loc) (ls : Array Slot), x_year_L63 R G pl n ks u1 u3 k I A x4 x6 = some (I9, A9, y4, y6) → WX D xS ad I A R G X H → va_S (upB base) s.heap H locs → lv_has ls 9 [(0, .ref (ad 199)), (1, .int u1), (3, .int u3), (4, .long x4), (6, .int x6)] → W p l e R0 s m args below meth c H locs cells slots Q (F0 m 63 ls []) := by
  intro k
  induction k with
  | zero =>
    intro I A x4 x6 H locs ls hf
    exact nomatch (show (none : Option ((Nat → Int32) × (Nat → Nat → Int32) × Int64 × Int32)) = some (I9, A9, y4, y6) from hf)
  | succ k ih =>
    intro I A x4 x6 H locs ls hf hW hS hl
    have hf : (if u1 ≤ x6 then (some (I, A, x4, x6)) else (ob1 (lremO (x4 * 16807) 2147483647) fun (w2 : Int64) =>
          ob1 (p_many (sh 200 I) (sh 200 A) (sh 200 R) pl n ks) fun (v3 : Int32) =>
          ob1 (lremO w2 v3.toInt64) fun (w4 : Int64) =>
          ob1 (lremO w2 2) fun (w5 : Int64) =>
          ob1 (if (lg_cmp w5 0) = 0 then ((some 1 : Option (Int32))) else ((some (-1) : Option (Int32)))) fun (v6 : Int32) =>
          ob1 (ldO (A 303) 5 w4.toInt32) fun (v8 : Int32) =>
          ob1 (p_mayWalk (sh 300 I) (sh 300 A) (sh 300 R) pl n ks w4.toInt32 v6) fun (v9 : Int32) =>
          ob1 (if v9 = 0 then ((some 0 : Option (Int32))) else ((some v6 : Option (Int32)))) fun (v10 : Int32) =>
          ob1 (stO (A 303) 5 w4.toInt32 (v8 + v10)) fun (f12 : Nat → Int32) =>
          ob2 (p_pass (sh 300 I) (sh 300 (va_up A 303 f12)) (sh 300 R) pl n ks) fun (I13 : Nat → Int32) (A14 : Nat → Nat → Int32) =>
          x_year_L63 R G pl n ks u1 u3 k (mg 300 I I13) (mg 300 (va_up A 303 f12) A14) w2 (x6 + 1))) = some (I9, A9, y4, y6) := hf
    refine lv_iload hx hb dX0_year_63 (lv_at hl 4 rfl) ?_
    refine lv_iload_n hx hb dX0_year_65 rfl (lv_at hl 1 rfl) ?_
    refine lv_icmp_ge (tgt := 159) hx hb dX0_year_66 (by decide) (fun c1 => ?_) (fun c1 => ?_)
    · rw [if_pos c1] at hf
      obtain ⟨rfl, rfl, rfl, rfl⟩ := so4 hf
      exact KX _ _ ls hW hS (lv_sub hl [0, 2] rfl)
    · rw [if_neg c1] at hf
      refine lv_lload hx hb dX0_year_69 (lv_at hl 3 rfl) ?_
      refine lv_ldc2 (v := 16807) hx hb hown (hts _ q1048) dX0_year_71 ?_
      refine lv_lmul hx hb dX0_year_74 ?_
      refine lv_ldc2 (v := 2147483647) hx hb hown (hts _ q1049) dX0_year_75 ?_
      obtain ⟨w2, hw2, hf⟩ := ob1_e hf
      refine g_lrem hx hb hw2 dX0_year_78 ?_
      refine lv_lstore (lv' := [(4, .long w2), (0, .ref (ad 199)), (1, .int u1), (3, .int u3), (6, .int x6)]) hx hb dX0_year_79 hl (by decide) rfl (fun ls hl => ?_)
      refine lv_lload hx hb dX0_year_81 (lv_at hl 0 rfl) ?_
      refine lv_aload_n hx hb dX0_year_83 rfl (lv_at hl 1 rfl) ?_
      refine x_get (v := .ref (ad 299)) hx hb hts hown hK hW xO199 in_X0 rfl 4 (by decide) q228 rfl rfl dX0_year_84 ?_
      obtain ⟨v3, h3, hf⟩ := ob1_e hf
      refine x_vR (ov := some (.int v3)) (D := D) (s0 := s0) (Sc := pS) (adc := (sh 200 ad)) (Ic := (sh 200 I)) (Ac := (sh 200 A)) (Rc := (sh 200 R)) (Gc := nG) (Xc := (xr200 D ad I A R G X)) (base := base) (As := []) (rest := [.long w2]) (b := ad 299) (C := RX1) ⟨hx, hb, hml, hown, hts⟩ (p_many_met l D s0 h0 (sh 200 ad) (xr200 D ad I A R G X) base (sh 200 I) (sh 200 A) (sh 200 R) pl n ks (xrg200 hR)  v3 h3) (g_cwV 0 hts (lw_V q747 q602 q603 q77 q604) rfl rfl p_many_ds ⟨Nat.le_trans (Nat.le_of_ble_eq_true rfl) hRf, Nat.le_trans (Nat.le_of_ble_eq_true rfl) hRl⟩) (x_recv hK hW xO299 rfl) hK hY (Nat.le_trans hB0 hS.1) (xw200 hW) hcs rfl hl.1 rfl (Nat.le_of_ble_eq_true rfl) dX0_year_87 ?_
      refine lv_i2l (v := v3.toInt64) hx hb dX0_year_90 rfl ?_
      obtain ⟨w4, hw4, hf⟩ := ob1_e hf
      refine g_lrem hx hb hw4 dX0_year_91 ?_
      refine lv_l2i (v := w4.toInt32) hx hb dX0_year_92 rfl ?_
      refine lv_istore (lv' := [(7, .int w4.toInt32), (4, .long w2), (0, .ref (ad 199)), (1, .int u1), (3, .int u3), (6, .int x6)]) hx hb dX0_year_93 hl (by decide) rfl (fun ls hl => ?_)
      refine lv_lload hx hb dX0_year_95 (lv_at hl 1 rfl) ?_
      refine lv_ldc2 (v := 2) hx hb hown (hts _ q288) dX0_year_97 ?_
      obtain ⟨w5, hw5, hf⟩ := ob1_e hf
      refine g_lrem hx hb hw5 dX0_year_100 ?_
      refine lv_lconst (v := 0) hx hb dX0_year_101 (by decide) ?_
      refine W.lcmp hx hb dX0_year_102 ?_
      obtain ⟨v6, hm6, hf⟩ := ob1_e hf
      refine w_cutL (nL := 9) (L := [(0, .ref (ad 199)), (1, .int u1), (3, .int u3), (4, .long w2), (6, .int x6), (7, .int w4.toInt32)]) (pcj := 111) (st := [.int v6]) (fun ls hl => ?_) (fun K6 => ?_)
      · refine lv_istore (lv' := [(8, .int v6), (0, .ref (ad 199)), (1, .int u1), (3, .int u3), (4, .long w2), (6, .int x6), (7, .int w4.toInt32)]) hx hb dX0_year_111 hl (by decide) rfl (fun ls hl => ?_)
        refine lv_aload_n hx hb dX0_year_113 rfl (lv_at hl 1 rfl) ?_
        refine x_get (v := .ref (ad 399)) hx hb hts hown hK hW xO199 in_X0 rfl 5 (by decide) q229 rfl rfl dX0_year_114 ?_
        refine x_get (v := .ref (ad 303)) hx hb hts hown hK hW xO399 in_X1 rfl 3 (by decide) q165 rfl rfl dX0_year_117 ?_
        refine lv_iload hx hb dX0_year_120 (lv_at hl 6 rfl) ?_
        refine lv_dup2_11 hx hb dX0_year_122 rfl rfl ?_
        obtain ⟨v8, hv8, hf⟩ := ob1_e hf
        refine x_iald hx hb hK hW xA303 hv8 dX0_year_123 ?_
        refine lv_aload_n hx hb dX0_year_124 rfl (lv_at hl 1 rfl) ?_
        refine x_get (v := .ref (ad 399)) hx hb hts hown hK hW xO199 in_X0 rfl 5 (by decide) q229 rfl rfl dX0_year_125 ?_
        refine lv_iload hx hb dX0_year_128 (lv_at hl 6 rfl) ?_
        refine lv_iload hx hb dX0_year_130 (lv_at hl 0 rfl) ?_
        obtain ⟨v9, h9, hf⟩ := ob1_e hf
        refine x_vR (ov := some (.int v9)) (D := D) (s0 := s0) (Sc := pS) (adc := (sh 300 ad)) (Ic := (sh 300 I)) (Ac := (sh 300 A)) (Rc := (sh 300 R)) (Gc := nG) (Xc := (xr300 D ad I A R G X)) (base := base) (As := [.int w4.toInt32, .int v6]) (rest := [.int v8, .int w4.toInt32, .ref (ad 303)]) (b := ad 399) (C := RX1) ⟨hx, hb, hml, hown, hts⟩ (p_mayWalk_met l D s0 h0 (sh 300 ad) (xr300 D ad I A R G X) base (sh 300 I) (sh 300 A) (sh 300 R) pl n ks (xrg300 hR) w4.toInt32 v6 v9 h9) (g_cwV 2 hts (lw_V q765 q766 q767 q77 q768) rfl rfl p_mayWalk_ds ⟨Nat.le_trans (Nat.le_of_ble_eq_true rfl) hRf, Nat.le_trans (Nat.le_of_ble_eq_true rfl) hRl⟩) (x_recv hK hW xO399 rfl) hK hY (Nat.le_trans hB0 hS.1) (xw300 hW) hcs rfl hl.1 rfl (Nat.le_of_ble_eq_true rfl) dX0_year_132 ?_
        obtain ⟨v10, hm10, hf⟩ := ob1_e hf
        refine w_cutL (nL := 9) (L := [(0, .ref (ad 199)), (1, .int u1), (3, .int u3), (4, .long w2), (6, .int x6)]) (pcj := 144) (st := [.int v10, .int v8, .int w4.toInt32, .ref (ad 303)]) (fun ls hl => ?_) (fun K10 => ?_)
        · refine lv_iadd hx hb dX0_year_144 ?_
          obtain ⟨f12, hf12, hf⟩ := ob1_e hf
          refine x_iast hx hb hK xwf hAP hW hS xA303 hf12 dX0_year_145 (fun H locs hW hS => ?_)
          refine lv_aload_n hx hb dX0_year_146 rfl (lv_at hl 0 rfl) ?_
          refine x_get (v := .ref (ad 399)) hx hb hts hown hK hW xO199 in_X0 rfl 5 (by decide) q229 rfl rfl dX0_year_147 ?_
          obtain ⟨I13, A14, h14, hf⟩ := ob2_e hf
          refine x_vW (ov := none) (D := D) (s0 := s0) (Sc := pS) (adc := (sh 300 ad)) (Ic := (sh 300 I)) (Ac := (sh 300 (va_up A 303 f12))) (Rc := (sh 300 R)) (Gc := nG) (Xc := (xr300 D ad I (va_up A 303 f12) R G X)) (base := base) (As := []) (rest := []) (Ic1 := I13) (Ac1 := A14) (Rc1 := (sh 300 R)) (Gc1 := nG) (Xc1 := (xr300 D ad I (va_up A 303 f12) R G X)) (b := ad 399) (C := RX1) ⟨hx, hb, hml, hown, hts⟩ (p_pass_met l D s0 h0 (sh 300 ad) (xr300 D ad I (va_up A 303 f12) R G X) base (xap300 hAP) (sh 300 I) (sh 300 (va_up A 303 f12)) (sh 300 R) pl n ks (xrg300 hR)  I13 A14 h14) (g_cwV 0 hts (lw_V q868 q869 q870 q77 q871) rfl rfl p_pass_ds ⟨Nat.le_trans (Nat.le_of_ble_eq_true rfl) hRf, Nat.le_trans (Nat.le_of_ble_eq_true rfl) hRl⟩) (x_recv hK hW xO399 rfl) hK hY (Nat.le_trans hB0 hS.1) (xw300 hW) hS hcs rfl hl.1 rfl (Nat.le_of_ble_eq_true rfl) dX0_year_150 (fun H locs hW hS => ?_)
          have hW : WX D xS ad (mg 300 I I13) (mg 300 (va_up A 303 f12) A14) R G X H := xu300 rfl rfl (mg_sh 300 _).symm hW
          refine lv_iinc (v := x6 + 1) (lv' := [(6, .int (x6 + 1)), (0, .ref (ad 199)), (1, .int u1), (3, .int u3), (4, .long w2)]) hx hb dX0_year_153 hl (k := 4) rfl (by rfl) (by decide) rfl (fun ls hl => ?_)
          refine lv_goto (tgt := 63) hx hb dX0_year_156 (by decide) ?_
          exact ih (mg 300 I I13) (mg 300 (va_up A 303 f12) A14) w2 (x6 + 1) _ _ ls hf hW hS (lv_sub hl [1, 2, 3, 4, 0] rfl)
        · refine lv_if_eq (tgt := 143) hx hb dX0_year_135 (by decide) (fun c11 => ?_) (fun c11 => ?_)
          · rw [if_pos c11] at hm10
            refine lv_iconst (v := 0) hx hb dX0_year_143 (by decide) ?_
            obtain rfl := so1 hm10
            exact K10 ls (lv_sub hl [1, 2, 3, 4, 5] rfl)
          · rw [if_neg c11] at hm10
            refine lv_iload hx hb dX0_year_138 (lv_at hl 0 rfl) ?_
            refine lv_goto (tgt := 144) hx hb dX0_year_140 (by decide) ?_
            obtain rfl := so1 hm10
            exact K10 ls (lv_sub hl [1, 2, 3, 4, 5] rfl)
      · refine lv_if_ne (tgt := 110) hx hb dX0_year_103 (by decide) (fun c7 => ?_) (fun c7 => ?_)
        · rw [if_neg c7] at hm6
          refine lv_iconst (v := (-1)) hx hb dX0_year_110 (by decide) ?_
          obtain rfl := so1 hm6
          exact K6 ls (lv_sub hl [2, 3, 4, 1, 5, 0] rfl)
        · rw [if_pos c7] at hm6
          refine lv_iconst (v := 1) hx hb dX0_year_106 (by decide) ?_
          refine lv_goto (tgt := 111) hx hb dX0_year_107 (by decide) ?_
          obtain rfl := so1 hm6
          exact K6 ls (lv_sub hl [2, 3, 4, 1, 5, 0] rfl)
def x_year_L168 (I : Nat → Int32) (A : Nat → Nat → Int32) (R : Nat → Option Nat) (G : Nat → Nat → Option Nat) (pl n : Nat) (ks : Nat → Nat) (u3 : Int32) : Nat → Int32 → Int32 → Int32 → Option (Int32 × Int32 × Int32)
  | 0, _, _, _ => none
  | k + 1, x6, x7, x8 =>
    ob1 (p_many (sh 200 I) (sh 200 A) (sh 200 R) pl n ks) fun (v1 : Int32) =>
    if v1 ≤ x8 then (some (x6, x7, x8)) else (ob1 (ldO (A 303) 5 x8) fun (v3 : Int32) =>
      ob1 (ldO (A 300) 6 v3) fun (v4 : Int32) =>
      ob1 (ldO (A 303) 5 x6) fun (v5 : Int32) =>
      ob1 (ldO (A 300) 6 v5) fun (v6 : Int32) =>
      ob1 (if v4 ≤ v6 then ((some x6 : Option (Int32))) else ((some x8 : Option (Int32)))) fun (v7 : Int32) =>
      ob1 (ldO (A 303) 5 x8) fun (v9 : Int32) =>
      x_year_L168 I A R G pl n ks u3 k v7 (x7 + v9) (x8 + 1))
set_option maxRecDepth 100000 in
set_option maxHeartbeats 4000000 in
theorem x_year_L168_w {p : Program} {l : Launch} {e : Env} {R0 : Room} {s : State} {m : MethodId} {args : Array Value} {below : List Frame} {meth : Method} {c : Code} {cells slots : Nat} {Q : State → Prop} {D : dd_} {s0 : State} {ad : Nat → Nat} {X : va_W} {base : Nat} (hx : p.tables.exec = Jvm.exec) (hb : c.code = cX0_year) (hml : c.maxLocals = 9) (hown : s.vm.findClass RX0 = some m.cls) (hts : ∀ w ∈ lw_all, w.before args s = true) (hK : Kx D s) (hY : s0.WarmedH s.vm) (h0 : ∀ w ∈ lw_tbl, va_Nw w s0) (hRf : 8 ≤ R0.frames) (hRl : 185 ≤ R0.locals) (hcs : cells ≤ R0.cells ∧ slots ≤ R0.slots) {H : Heap} {locs : List Loc} (hB : base ≤ H.size) (I : Nat → Int32) (A : Nat → Nat → Int32) (R : Nat → Option Nat) (G : Nat → Nat → Option Nat) (pl n : Nat) (ks : Nat → Nat) (u3 : Int32) (hR : RegX D X pl n ks) (hW : WX D xS ad I A R G X H) (y6 : Int32) (y7 : Int32) (y8 : Int32) (KX : ∀ (ls : Array Slot), lv_has ls 9 [(3, .int u3), (6, .int y6), (7, .int y7)] → W p l e R0 s m args below meth c H locs cells slots Q (F0 m 249 ls [])) : ∀ (k : Nat) (x6 : Int32) (x7 : Int32) (x8 : Int32) (ls : Array Slot), x_year_L168 I A R G pl n ks u3 k x6 x7 x8 = some (y6, y7, y8) → lv_has ls 9 [(0, .ref (ad 199)), (3, .int u3), (6, .int x6), (7, .int x7), (8, .int x8)] → W p l e R0 s m args below meth c H locs cells slots Q (F0 m 168 ls []) := by
  intro k
  induction k with
  | zero =>
    intro x6 x7 x8 ls hf
    exact nomatch (show (none : Option (Int32 × Int32 × Int32)) = some (y6, y7, y8) from hf)
  | succ k ih =>
    intro x6 x7 x8 ls hf hl
    have hf : (ob1 (p_many (sh 200 I) (sh 200 A) (sh 200 R) pl n ks) fun (v1 : Int32) =>
        if v1 ≤ x8 then (some (x6, x7, x8)) else (ob1 (ldO (A 303) 5 x8) fun (v3 : Int32) =>
          ob1 (ldO (A 300) 6 v3) fun (v4 : Int32) =>
          ob1 (ldO (A 303) 5 x6) fun (v5 : Int32) =>
          ob1 (ldO (A 300) 6 v5) fun (v6 : Int32) =>
          ob1 (if v4 ≤ v6 then ((some x6 : Option (Int32))) else ((some x8 : Option (Int32)))) fun (v7 : Int32) =>
          ob1 (ldO (A 303) 5 x8) fun (v9 : Int32) =>
          x_year_L168 I A R G pl n ks u3 k v7 (x7 + v9) (x8 + 1))) = some (y6, y7, y8) := hf
    refine lv_iload hx hb dX0_year_168 (lv_at hl 4 rfl) ?_
    refine lv_aload_n hx hb dX0_year_170 rfl (lv_at hl 0 rfl) ?_
    refine x_get (v := .ref (ad 299)) hx hb hts hown hK hW xO199 in_X0 rfl 4 (by decide) q228 rfl rfl dX0_year_171 ?_
    obtain ⟨v1, h1, hf⟩ := ob1_e hf
    refine x_vR (ov := some (.int v1)) (D := D) (s0 := s0) (Sc := pS) (adc := (sh 200 ad)) (Ic := (sh 200 I)) (Ac := (sh 200 A)) (Rc := (sh 200 R)) (Gc := nG) (Xc := (xr200 D ad I A R G X)) (base := base) (As := []) (rest := [.int x8]) (b := ad 299) (C := RX1) ⟨hx, hb, hml, hown, hts⟩ (p_many_met l D s0 h0 (sh 200 ad) (xr200 D ad I A R G X) base (sh 200 I) (sh 200 A) (sh 200 R) pl n ks (xrg200 hR)  v1 h1) (g_cwV 0 hts (lw_V q747 q602 q603 q77 q604) rfl rfl p_many_ds ⟨Nat.le_trans (Nat.le_of_ble_eq_true rfl) hRf, Nat.le_trans (Nat.le_of_ble_eq_true rfl) hRl⟩) (x_recv hK hW xO299 rfl) hK hY hB (xw200 hW) hcs rfl hl.1 rfl (Nat.le_of_ble_eq_true rfl) dX0_year_174 ?_
    refine lv_icmp_ge (tgt := 249) hx hb dX0_year_177 (by decide) (fun c2 => ?_) (fun c2 => ?_)
    · rw [if_pos c2] at hf
      obtain ⟨rfl, rfl, rfl⟩ := so3 hf
      exact KX ls (lv_sub hl [1, 2, 3] rfl)
    · rw [if_neg c2] at hf
      refine lv_aload_n hx hb dX0_year_180 rfl (lv_at hl 0 rfl) ?_
      refine x_get (v := .ref (ad 399)) hx hb hts hown hK hW xO199 in_X0 rfl 5 (by decide) q229 rfl rfl dX0_year_181 ?_
      refine x_get (v := .ref (ad 300)) hx hb hts hown hK hW xO399 in_X1 rfl 0 (by decide) q155 rfl rfl dX0_year_184 ?_
      refine lv_aload_n hx hb dX0_year_187 rfl (lv_at hl 0 rfl) ?_
      refine x_get (v := .ref (ad 399)) hx hb hts hown hK hW xO199 in_X0 rfl 5 (by decide) q229 rfl rfl dX0_year_188 ?_
      refine x_get (v := .ref (ad 303)) hx hb hts hown hK hW xO399 in_X1 rfl 3 (by decide) q165 rfl rfl dX0_year_191 ?_
      refine lv_iload hx hb dX0_year_194 (lv_at hl 4 rfl) ?_
      obtain ⟨v3, hv3, hf⟩ := ob1_e hf
      refine x_iald hx hb hK hW xA303 hv3 dX0_year_196 ?_
      obtain ⟨v4, hv4, hf⟩ := ob1_e hf
      refine x_iald hx hb hK hW xA300 hv4 dX0_year_197 ?_
      refine lv_aload_n hx hb dX0_year_198 rfl (lv_at hl 0 rfl) ?_
      refine x_get (v := .ref (ad 399)) hx hb hts hown hK hW xO199 in_X0 rfl 5 (by decide) q229 rfl rfl dX0_year_199 ?_
      refine x_get (v := .ref (ad 300)) hx hb hts hown hK hW xO399 in_X1 rfl 0 (by decide) q155 rfl rfl dX0_year_202 ?_
      refine lv_aload_n hx hb dX0_year_205 rfl (lv_at hl 0 rfl) ?_
      refine x_get (v := .ref (ad 399)) hx hb hts hown hK hW xO199 in_X0 rfl 5 (by decide) q229 rfl rfl dX0_year_206 ?_
      refine x_get (v := .ref (ad 303)) hx hb hts hown hK hW xO399 in_X1 rfl 3 (by decide) q165 rfl rfl dX0_year_209 ?_
      refine lv_iload hx hb dX0_year_212 (lv_at hl 2 rfl) ?_
      obtain ⟨v5, hv5, hf⟩ := ob1_e hf
      refine x_iald hx hb hK hW xA303 hv5 dX0_year_214 ?_
      obtain ⟨v6, hv6, hf⟩ := ob1_e hf
      refine x_iald hx hb hK hW xA300 hv6 dX0_year_215 ?_
      obtain ⟨v7, hm7, hf⟩ := ob1_e hf
      refine w_cutL (nL := 9) (L := [(0, .ref (ad 199)), (3, .int u3), (7, .int x7), (8, .int x8)]) (pcj := 226) (st := [.int v7]) (fun ls hl => ?_) (fun K7 => ?_)
      · refine lv_istore (lv' := [(6, .int v7), (0, .ref (ad 199)), (3, .int u3), (7, .int x7), (8, .int x8)]) hx hb dX0_year_226 hl (by decide) rfl (fun ls hl => ?_)
        refine lv_iload hx hb dX0_year_228 (lv_at hl 3 rfl) ?_
        refine lv_aload_n hx hb dX0_year_230 rfl (lv_at hl 1 rfl) ?_
        refine x_get (v := .ref (ad 399)) hx hb hts hown hK hW xO199 in_X0 rfl 5 (by decide) q229 rfl rfl dX0_year_231 ?_
        refine x_get (v := .ref (ad 303)) hx hb hts hown hK hW xO399 in_X1 rfl 3 (by decide) q165 rfl rfl dX0_year_234 ?_
        refine lv_iload hx hb dX0_year_237 (lv_at hl 4 rfl) ?_
        obtain ⟨v9, hv9, hf⟩ := ob1_e hf
        refine x_iald hx hb hK hW xA303 hv9 dX0_year_239 ?_
        refine lv_iadd hx hb dX0_year_240 ?_
        refine lv_istore (lv' := [(7, .int (x7 + v9)), (6, .int v7), (0, .ref (ad 199)), (3, .int u3), (8, .int x8)]) hx hb dX0_year_241 hl (by decide) rfl (fun ls hl => ?_)
        refine lv_iinc (v := x8 + 1) (lv' := [(8, .int (x8 + 1)), (7, .int (x7 + v9)), (6, .int v7), (0, .ref (ad 199)), (3, .int u3)]) hx hb dX0_year_243 hl (k := 4) rfl (by rfl) (by decide) rfl (fun ls hl => ?_)
        refine lv_goto (tgt := 168) hx hb dX0_year_246 (by decide) ?_
        exact ih v7 (x7 + v9) (x8 + 1) ls hf (lv_sub hl [3, 4, 2, 1, 0] rfl)
      · refine lv_icmp_le (tgt := 224) hx hb dX0_year_216 (by decide) (fun c8 => ?_) (fun c8 => ?_)
        · rw [if_pos c8] at hm7
          refine lv_iload hx hb dX0_year_224 (lv_at hl 2 rfl) ?_
          obtain rfl := so1 hm7
          exact K7 ls (lv_sub hl [0, 1, 3, 4] rfl)
        · rw [if_neg c8] at hm7
          refine lv_iload hx hb dX0_year_219 (lv_at hl 4 rfl) ?_
          refine lv_goto (tgt := 226) hx hb dX0_year_221 (by decide) ?_
          obtain rfl := so1 hm7
          exact K7 ls (lv_sub hl [0, 1, 3, 4] rfl)
def x_year (I : Nat → Int32) (A : Nat → Nat → Int32) (R : Nat → Option Nat) (G : Nat → Nat → Option Nat) (pl n : Nat) (ks : Nat → Nat) (a0 : Int32) (a1 : Int32) (a2 : Int32) : Option (Int32 × (Nat → Int32) × (Nat → Nat → Int32) × (Nat → Option Nat)) :=
  ob1 (x_isParish I A R G pl n ks) fun (v1 : Int32) =>
  if v1 = 0 then (some ((-1000002), I, A, R)) else (ob1 (x_isIn a0.toInt64 0 60) fun (v3 : Int32) =>
    if v3 = 0 then (some ((-1000001), I, A, R)) else (ob1 (x_isIn a1.toInt64 1 999999) fun (v5 : Int32) =>
      if v5 = 0 then (some ((-1000001), I, A, R)) else (ob1 (x_isHalf a2) fun (v7 : Int32) =>
        if v7 = 0 then (some ((-1000001), I, A, R)) else (ob3 (p_become (sl2 300 200 I) (sl2 300 200 A) (sl2 300 200 R)) fun (I9 : Nat → Int32) (A10 : Nat → Nat → Int32) (R11 : Nat → Option Nat) =>
          ob4 (x_year_L63 (mg 300 (mg 200 R (sh 100 R11)) R11) G pl n ks a0 a2 NF (mg 300 (mg 200 I (sh 100 I9)) I9) (mg 300 (mg 200 A (sh 100 A10)) A10) a1.toInt64 0) fun (I12 : Nat → Int32) (A13 : Nat → Nat → Int32) (w14 : Int64) (v15 : Int32) =>
          ob3 (x_year_L168 I12 A13 (mg 300 (mg 200 R (sh 100 R11)) R11) G pl n ks a2 NF 0 0 0) fun (v16 : Int32) (v17 : Int32) (v18 : Int32) =>
          ob1 (if a2 = 0 then ((some v16 : Option (Int32))) else ((some v17 : Option (Int32)))) fun (v19 : Int32) =>
          some (v19, I12, A13, mg 300 (mg 200 R (sh 100 R11)) R11)))))
set_option maxRecDepth 100000 in
set_option maxHeartbeats 4000000 in
theorem x_year_met (l : Launch) (D : dd_) (s0 : State) (h0 : ∀ w ∈ lw_tbl, va_Nw w s0) (ad : Nat → Nat) (X : va_W) (base : Nat) (hAP : AP xS ad X base) (I : Nat → Int32) (A : Nat → Nat → Int32) (R : Nat → Option Nat) (G : Nat → Nat → Option Nat) (pl n : Nat) (ks : Nat → Nat) (hR : RegX D X pl n ks) (a0 : Int32) (a1 : Int32) (a2 : Int32) (r : Int32) (I1 : (Nat → Int32)) (A1 : (Nat → Nat → Int32)) (R1 : (Nat → Option Nat)) (hf : x_year I A R G pl n ks a0 a1 a2 = some (r, I1, A1, R1)) : Met l yX0_year (ws_ yX0_year cX0_year 9 (some .int)) ({ frames := 8, cells := 0, slots := 0, locals := 185 }) (PcX D s0 xS ad I A R G X base [.ref (ad 199), .int a0, .int a1, .int a2]) (QcX D xS ad I1 A1 R1 G X base (some (.int r))) 0 0 (upB base) := by
  refine Met.ofW (cc := cX0_year) (maxL := 9) (ret := (some .int)) (by decide) rfl ?_
  intro p e s m args below meth c s₁ B hml hv
  obtain ⟨rfl, hK, hY, hB0, hW⟩ := hv
  have hx := B.exec
  have hb := B.bytes
  have hr := B.returns
  have hts := atoms_spec (ws := (ws_ yX0_year cX0_year 9 (some .int))) B.pre
  have hts : ∀ w ∈ lw_all, w.before _ s = true := fun w h => hts w (List.mem_cons_of_mem _ h)
  have hown : s.vm.findClass RX0 = some m.cls := findClass_of_methodNamed B.named
  have hlocks := B.notSynchronized
  have hRf : 8 ≤ (headSpec (ws_ yX0_year cX0_year 9 (some .int)) ({ frames := 8, cells := 0, slots := 0, locals := 185 })).room.frames := Nat.le_refl _
  have hRl : 185 ≤ (headSpec (ws_ yX0_year cX0_year 9 (some .int)) ({ frames := 8, cells := 0, slots := 0, locals := 185 })).room.locals := Nat.le_refl _
  have hcs : 0 ≤ (headSpec (ws_ yX0_year cX0_year 9 (some .int)) ({ frames := 8, cells := 0, slots := 0, locals := 185 })).room.cells ∧ 0 ≤ (headSpec (ws_ yX0_year cX0_year 9 (some .int)) ({ frames := 8, cells := 0, slots := 0, locals := 185 })).room.slots := ⟨Nat.zero_le _, Nat.zero_le _⟩
  have hS : va_S (upB base) s.heap s.heap [] := va_S.rf
  have hl := lv_entry ([.ref (ad 199), .int a0, .int a1, .int a2]) (n := 9) (Nat.le_of_ble_eq_true rfl)
  rw [lg_entry_eq]
  generalize (lg_sl ([.ref (ad 199), .int a0, .int a1, .int a2]) ++ List.replicate (9 - (lg_sl ([.ref (ad 199), .int a0, .int a1, .int a2])).length) Slot.unset).toArray = ls at hl ⊢
  have hl : lv_has ls 9 [(0, .ref (ad 199)), (1, .int a0), (2, .int a1), (3, .int a2)] := hl
  have hf : (ob1 (x_isParish I A R G pl n ks) fun (v1 : Int32) =>
    if v1 = 0 then (some ((-1000002), I, A, R)) else (ob1 (x_isIn a0.toInt64 0 60) fun (v3 : Int32) =>
      if v3 = 0 then (some ((-1000001), I, A, R)) else (ob1 (x_isIn a1.toInt64 1 999999) fun (v5 : Int32) =>
        if v5 = 0 then (some ((-1000001), I, A, R)) else (ob1 (x_isHalf a2) fun (v7 : Int32) =>
          if v7 = 0 then (some ((-1000001), I, A, R)) else (ob3 (p_become (sl2 300 200 I) (sl2 300 200 A) (sl2 300 200 R)) fun (I9 : Nat → Int32) (A10 : Nat → Nat → Int32) (R11 : Nat → Option Nat) =>
            ob4 (x_year_L63 (mg 300 (mg 200 R (sh 100 R11)) R11) G pl n ks a0 a2 NF (mg 300 (mg 200 I (sh 100 I9)) I9) (mg 300 (mg 200 A (sh 100 A10)) A10) a1.toInt64 0) fun (I12 : Nat → Int32) (A13 : Nat → Nat → Int32) (w14 : Int64) (v15 : Int32) =>
            ob3 (x_year_L168 I12 A13 (mg 300 (mg 200 R (sh 100 R11)) R11) G pl n ks a2 NF 0 0 0) fun (v16 : Int32) (v17 : Int32) (v18 : Int32) =>
            ob1 (if a2 = 0 then ((some v16 : Option (Int32))) else ((some v17 : Option (Int32)))) fun (v19 : Int32) =>
            some (v19, I12, A13, mg 300 (mg 200 R (sh 100 R11)) R11)))))) = some (r, I1, A1, R1) := hf
  refine lv_aload_n hx hb dX0_year_0 rfl (lv_at hl 0 rfl) ?_
  obtain ⟨v1, h1, hf⟩ := ob1_e hf
  refine x_vR (ov := some (.int v1)) (D := D) (s0 := s0) (Sc := xS) (adc := ad) (Ic := I) (Ac := A) (Rc := R) (Gc := G) (Xc := X) (base := base) (As := []) (rest := []) (b := ad 199) (C := RX0) ⟨hx, hb, hml, hown, hts⟩ (x_isParish_met l D s0 h0 ad X base I A R G pl n ks hR  v1 h1) (g_cwV 0 hts (lw_V q863 q865 qs21 q76 q866) rfl rfl x_isParish_ds ⟨Nat.le_trans (Nat.le_of_ble_eq_true rfl) hRf, Nat.le_trans (Nat.le_of_ble_eq_true rfl) hRl⟩) (x_recv hK hW xO199 rfl) hK hY (Nat.le_trans hB0 hS.1) hW hcs rfl hl.1 rfl (Nat.le_of_ble_eq_true rfl) dX0_year_1 ?_
  refine lv_if_ne (tgt := 10) hx hb dX0_year_4 (by decide) (fun c2 => ?_) (fun c2 => ?_)
  · rw [if_neg c2] at hf
    refine lv_iload_n hx hb dX0_year_10 rfl (lv_at hl 1 rfl) ?_
    refine lv_i2l (v := a0.toInt64) hx hb dX0_year_11 rfl ?_
    refine lv_lconst (v := 0) hx hb dX0_year_12 (by decide) ?_
    refine lv_ldc2 (v := 60) hx hb hown (hts _ q1038) dX0_year_13 ?_
    obtain ⟨v3, h3, hf⟩ := ob1_e hf
    refine x_sR (ov := some (.int v3)) (D := D) (s0 := s0) (Sc := nS) (adc := ad) (Ic := (fun _ => 0)) (Ac := (fun _ _ => 0)) (Rc := nR) (Gc := nG) (Xc := []) (base := base) (As := [.long a0.toInt64, .long 0, .long 60]) (rest := []) ⟨hx, hb, hml, hown, hts⟩ (x_isIn_met l D s0 h0 ad [] base a0.toInt64 0 60 v3 h3) (va_cwS 3 hts (lw_S q285 q286 q76 q287) rfl rfl rfl x_isIn_ds.2 ⟨Nat.le_trans (Nat.le_of_ble_eq_true rfl) hRf, Nat.le_trans (Nat.le_of_ble_eq_true rfl) hRl⟩) hK hY (Nat.le_trans hB0 hS.1) WX_nil hcs rfl hl.1 rfl (Nat.le_of_ble_eq_true rfl) dX0_year_16 ?_
    refine lv_if_eq (tgt := 41) hx hb dX0_year_19 (by decide) (fun c4 => ?_) (fun c4 => ?_)
    · rw [if_pos c4] at hf
      refine lv_ldc (v := (-1000001)) hx hb hown (hts _ q289) dX0_year_41 ?_
      obtain ⟨rfl, rfl, rfl, rfl⟩ := so4 hf
      exact W.iret hx hb hr (fun t ht _ => ⟨rfl, by rw [ht]; exact hW, hS.F ht⟩) hS.2.2 dX0_year_43
    · rw [if_neg c4] at hf
      refine lv_iload_n hx hb dX0_year_22 rfl (lv_at hl 2 rfl) ?_
      refine lv_i2l (v := a1.toInt64) hx hb dX0_year_23 rfl ?_
      refine lv_lconst (v := 1) hx hb dX0_year_24 (by decide) ?_
      refine lv_ldc2 (v := 999999) hx hb hown (hts _ q1047) dX0_year_25 ?_
      obtain ⟨v5, h5, hf⟩ := ob1_e hf
      refine x_sR (ov := some (.int v5)) (D := D) (s0 := s0) (Sc := nS) (adc := ad) (Ic := (fun _ => 0)) (Ac := (fun _ _ => 0)) (Rc := nR) (Gc := nG) (Xc := []) (base := base) (As := [.long a1.toInt64, .long 1, .long 999999]) (rest := []) ⟨hx, hb, hml, hown, hts⟩ (x_isIn_met l D s0 h0 ad [] base a1.toInt64 1 999999 v5 h5) (va_cwS 3 hts (lw_S q285 q286 q76 q287) rfl rfl rfl x_isIn_ds.2 ⟨Nat.le_trans (Nat.le_of_ble_eq_true rfl) hRf, Nat.le_trans (Nat.le_of_ble_eq_true rfl) hRl⟩) hK hY (Nat.le_trans hB0 hS.1) WX_nil hcs rfl hl.1 rfl (Nat.le_of_ble_eq_true rfl) dX0_year_28 ?_
      refine lv_if_eq (tgt := 41) hx hb dX0_year_31 (by decide) (fun c6 => ?_) (fun c6 => ?_)
      · rw [if_pos c6] at hf
        refine lv_ldc (v := (-1000001)) hx hb hown (hts _ q289) dX0_year_41 ?_
        obtain ⟨rfl, rfl, rfl, rfl⟩ := so4 hf
        exact W.iret hx hb hr (fun t ht _ => ⟨rfl, by rw [ht]; exact hW, hS.F ht⟩) hS.2.2 dX0_year_43
      · rw [if_neg c6] at hf
        refine lv_iload_n hx hb dX0_year_34 rfl (lv_at hl 3 rfl) ?_
        obtain ⟨v7, h7, hf⟩ := ob1_e hf
        refine x_sR (ov := some (.int v7)) (D := D) (s0 := s0) (Sc := nS) (adc := ad) (Ic := (fun _ => 0)) (Ac := (fun _ _ => 0)) (Rc := nR) (Gc := nG) (Xc := []) (base := base) (As := [.int a2]) (rest := []) ⟨hx, hb, hml, hown, hts⟩ (x_isHalf_met l D s0 h0 ad [] base a2 v7 h7) (va_cwS 1 hts (lw_S q910 q911 q76 q912) rfl rfl rfl x_isHalf_ds.2 ⟨Nat.le_trans (Nat.le_of_ble_eq_true rfl) hRf, Nat.le_trans (Nat.le_of_ble_eq_true rfl) hRl⟩) hK hY (Nat.le_trans hB0 hS.1) WX_nil hcs rfl hl.1 rfl (Nat.le_of_ble_eq_true rfl) dX0_year_35 ?_
        refine lv_if_ne (tgt := 44) hx hb dX0_year_38 (by decide) (fun c8 => ?_) (fun c8 => ?_)
        · rw [if_neg c8] at hf
          refine lv_aload_n hx hb dX0_year_44 rfl (lv_at hl 0 rfl) ?_
          refine x_get (v := .ref (ad 399)) hx hb hts hown hK hW xO199 in_X0 rfl 5 (by decide) q229 rfl rfl dX0_year_45 ?_
          refine lv_aload_n hx hb dX0_year_48 rfl (lv_at hl 0 rfl) ?_
          refine x_get (v := .ref (ad 299)) hx hb hts hown hK hW xO199 in_X0 rfl 4 (by decide) q228 rfl rfl dX0_year_49 ?_
          obtain ⟨I9, A10, R11, h11, hf⟩ := ob3_e hf
          refine x_vW (ov := some (.ref (ad 399))) (D := D) (s0 := s0) (Sc := p2S) (adc := sl2 300 200 ad) (Ic := (sl2 300 200 I)) (Ac := (sl2 300 200 A)) (Rc := (sl2 300 200 R)) (Gc := nG) (Xc := (xq D ad I A R G X)) (base := base) (As := [.ref (ad 299)]) (rest := []) (Ic1 := I9) (Ac1 := A10) (Rc1 := R11) (Gc1 := nG) (Xc1 := (xq D ad I A R G X)) (b := ad 399) (C := RX1) ⟨hx, hb, hml, hown, hts⟩ (p_become_met l D s0 h0 (sl2 300 200 ad) (xq D ad I A R G X) base (xqap hAP) (sl2 300 200 I) (sl2 300 200 A) (sl2 300 200 R) I9 A10 R11 h11) (g_cwV 1 hts (lw_V q742 q743 q744 q77 q745) rfl rfl p_become_ds ⟨Nat.le_trans (Nat.le_of_ble_eq_true rfl) hRf, Nat.le_trans (Nat.le_of_ble_eq_true rfl) hRl⟩) (x_recv hK hW xO399 rfl) hK hY (Nat.le_trans hB0 hS.1) (xqw hW) hS hcs rfl hl.1 rfl (Nat.le_of_ble_eq_true rfl) dX0_year_52 (fun H locs hW hS => ?_)
          have hW : WX D xS ad (mg 300 (mg 200 I (sh 100 I9)) I9) (mg 300 (mg 200 A (sh 100 A10)) A10) (mg 300 (mg 200 R (sh 100 R11)) R11) G X H := xqu hW
          refine lv_pop hx hb dX0_year_55 rfl ?_
          refine lv_iload_n hx hb dX0_year_56 rfl (lv_at hl 2 rfl) ?_
          refine lv_i2l (v := a1.toInt64) hx hb dX0_year_57 rfl ?_
          refine lv_lstore (lv' := [(4, .long a1.toInt64), (0, .ref (ad 199)), (1, .int a0), (2, .int a1), (3, .int a2)]) hx hb dX0_year_58 hl (by decide) rfl (fun ls hl => ?_)
          refine lv_iconst (v := 0) hx hb dX0_year_60 (by decide) ?_
          refine lv_istore (lv' := [(6, .int 0), (4, .long a1.toInt64), (0, .ref (ad 199)), (1, .int a0), (2, .int a1), (3, .int a2)]) hx hb dX0_year_61 hl (by decide) rfl (fun ls hl => ?_)
          obtain ⟨I12, A13, w14, v15, hq15, hf⟩ := ob4_e hf
          refine x_year_L63_w hx hb hml hown hts hK hY h0 hRf hRl hcs hB0 hAP (mg 300 (mg 200 R (sh 100 R11)) R11) G pl n ks a0 a2 hR I12 A13 w14 v15 (fun H locs ls hW hS hl => ?_) NF (mg 300 (mg 200 I (sh 100 I9)) I9) (mg 300 (mg 200 A (sh 100 A10)) A10) a1.toInt64 0 _ _ ls hq15 hW hS (lv_sub hl [2, 3, 5, 1, 0] rfl)
          refine lv_iconst (v := 0) hx hb dX0_year_159 (by decide) ?_
          refine lv_istore (lv' := [(6, .int 0), (0, .ref (ad 199)), (3, .int a2)]) hx hb dX0_year_160 hl (by decide) rfl (fun ls hl => ?_)
          refine lv_iconst (v := 0) hx hb dX0_year_162 (by decide) ?_
          refine lv_istore (lv' := [(7, .int 0), (6, .int 0), (0, .ref (ad 199)), (3, .int a2)]) hx hb dX0_year_163 hl (by decide) rfl (fun ls hl => ?_)
          refine lv_iconst (v := 0) hx hb dX0_year_165 (by decide) ?_
          refine lv_istore (lv' := [(8, .int 0), (7, .int 0), (6, .int 0), (0, .ref (ad 199)), (3, .int a2)]) hx hb dX0_year_166 hl (by decide) rfl (fun ls hl => ?_)
          obtain ⟨v16, v17, v18, hq18, hf⟩ := ob3_e hf
          refine x_year_L168_w hx hb hml hown hts hK hY h0 hRf hRl hcs (Nat.le_trans hB0 hS.1) I12 A13 (mg 300 (mg 200 R (sh 100 R11)) R11) G pl n ks a2 hR hW v16 v17 v18 (fun ls hl => ?_) NF 0 0 0 ls hq18 (lv_sub hl [3, 4, 2, 1, 0] rfl)
          refine lv_iload_n hx hb dX0_year_249 rfl (lv_at hl 0 rfl) ?_
          obtain ⟨v19, hm19, hf⟩ := ob1_e hf
          refine w_cutL (nL := 9) (L := []) (pcj := 260) (st := [.int v19]) (fun ls hl => ?_) (fun K19 => ?_)
          · obtain ⟨rfl, rfl, rfl, rfl⟩ := so4 hf
            exact W.iret hx hb hr (fun t ht _ => ⟨rfl, by rw [ht]; exact hW, hS.F ht⟩) hS.2.2 dX0_year_260
          · refine lv_if_ne (tgt := 258) hx hb dX0_year_250 (by decide) (fun c20 => ?_) (fun c20 => ?_)
            · rw [if_neg c20] at hm19
              refine lv_iload hx hb dX0_year_258 (lv_at hl 2 rfl) ?_
              obtain rfl := so1 hm19
              exact K19 ls (lv_sub hl [] rfl)
            · rw [if_pos c20] at hm19
              refine lv_iload hx hb dX0_year_253 (lv_at hl 1 rfl) ?_
              refine lv_goto (tgt := 260) hx hb dX0_year_255 (by decide) ?_
              obtain rfl := so1 hm19
              exact K19 ls (lv_sub hl [] rfl)
        · rw [if_pos c8] at hf
          refine lv_ldc (v := (-1000001)) hx hb hown (hts _ q289) dX0_year_41 ?_
          obtain ⟨rfl, rfl, rfl, rfl⟩ := so4 hf
          exact W.iret hx hb hr (fun t ht _ => ⟨rfl, by rw [ht]; exact hW, hS.F ht⟩) hS.2.2 dX0_year_43
  · rw [if_pos c2] at hf
    refine lv_ldc (v := (-1000002)) hx hb hown (hts _ q756) dX0_year_7 ?_
    obtain ⟨rfl, rfl, rfl, rfl⟩ := so4 hf
    exact W.iret hx hb hr (fun t ht _ => ⟨rfl, by rw [ht]; exact hW, hS.F ht⟩) hS.2.2 dX0_year_9
theorem x_year_ds : yX0_year.cls = RX0 ∧ yX0_year.cls ≠ "java/lang/invoke/MethodHandle" ∧ yX0_year.cls ≠ "java/lang/invoke/VarHandle" ∧ (parseMethodDescriptor yX0_year.desc).map (fun d => d.parameters.length) = some 3 := by decide +kernel
def x_count_L50 (I : Nat → Int32) (A : Nat → Nat → Int32) (R : Nat → Option Nat) (G : Nat → Nat → Option Nat) (pl n : Nat) (ks : Nat → Nat) : Nat → Int32 → Int32 → Option (Int32 × Int32)
  | 0, _, _ => none
  | k + 1, x2, x3 =>
    if 8 ≤ x3 then (some (x2, x3)) else (ob1 (aldO (G 100) 8 x3) fun (o2 : Option Nat) =>
      ob1 (if o2 = none then ((some 0 : Option (Int32))) else ((some 1 : Option (Int32)))) fun (v3 : Int32) =>
      x_count_L50 I A R G pl n ks k (x2 + v3) (x3 + 1))
set_option maxRecDepth 100000 in
set_option maxHeartbeats 4000000 in
theorem x_count_L50_w {p : Program} {l : Launch} {e : Env} {R0 : Room} {s : State} {m : MethodId} {args : Array Value} {below : List Frame} {meth : Method} {c : Code} {cells slots : Nat} {Q : State → Prop} {D : dd_} {s0 : State} {ad : Nat → Nat} {X : va_W} {base : Nat} (hx : p.tables.exec = Jvm.exec) (hb : c.code = cX0_count) (hml : c.maxLocals = 4) (hown : s.vm.findClass RX0 = some m.cls) (hts : ∀ w ∈ lw_all, w.before args s = true) (hK : Kx D s) (hY : s0.WarmedH s.vm) (h0 : ∀ w ∈ lw_tbl, va_Nw w s0) (hRf : 8 ≤ R0.frames) (hRl : 184 ≤ R0.locals) (hcs : cells ≤ R0.cells ∧ slots ≤ R0.slots) {H : Heap} {locs : List Loc} (hB : base ≤ H.size) (I : Nat → Int32) (A : Nat → Nat → Int32) (R : Nat → Option Nat) (G : Nat → Nat → Option Nat) (pl n : Nat) (ks : Nat → Nat) (hR : RegX D X pl n ks) (hW : WX D xS ad I A R G X H) (y2 : Int32) (y3 : Int32) (KX : ∀ (ls : Array Slot), lv_has ls 4 [(2, .int y2)] → W p l e R0 s m args below meth c H locs cells slots Q (F0 m 79 ls [])) : ∀ (k : Nat) (x2 : Int32) (x3 : Int32) (ls : Array Slot), x_count_L50 I A R G pl n ks k x2 x3 = some (y2, y3) → lv_has ls 4 [(0, .ref (ad 199)), (2, .int x2), (3, .int x3)] → W p l e R0 s m args below meth c H locs cells slots Q (F0 m 50 ls []) := by
  intro k
  induction k with
  | zero =>
    intro x2 x3 ls hf
    exact nomatch (show (none : Option (Int32 × Int32)) = some (y2, y3) from hf)
  | succ k ih =>
    intro x2 x3 ls hf hl
    have hf : (if 8 ≤ x3 then (some (x2, x3)) else (ob1 (aldO (G 100) 8 x3) fun (o2 : Option Nat) =>
          ob1 (if o2 = none then ((some 0 : Option (Int32))) else ((some 1 : Option (Int32)))) fun (v3 : Int32) =>
          x_count_L50 I A R G pl n ks k (x2 + v3) (x3 + 1))) = some (y2, y3) := hf
    refine lv_iload_n hx hb dX0_count_50 rfl (lv_at hl 2 rfl) ?_
    refine lv_bipush (v := 8) hx hb dX0_count_51 (by decide) ?_
    refine lv_icmp_ge (tgt := 79) hx hb dX0_count_53 (by decide) (fun c1 => ?_) (fun c1 => ?_)
    · rw [if_pos c1] at hf
      obtain ⟨rfl, rfl⟩ := so2 hf
      exact KX ls (lv_sub hl [1] rfl)
    · rw [if_neg c1] at hf
      refine lv_iload_n hx hb dX0_count_56 rfl (lv_at hl 1 rfl) ?_
      refine lv_aload_n hx hb dX0_count_57 rfl (lv_at hl 0 rfl) ?_
      refine x_get (v := .ref (ad 100)) hx hb hts hown hK hW xO199 in_X0 rfl 0 (by decide) q224 rfl rfl dX0_count_58 ?_
      refine lv_iload_n hx hb dX0_count_61 rfl (lv_at hl 2 rfl) ?_
      obtain ⟨o2, ho2, hf⟩ := ob1_e hf
      refine x_aald hx hb hK hW (by decide) xG100 ho2 dX0_count_62 ?_
      obtain ⟨v3, hm3, hf⟩ := ob1_e hf
      refine w_cutL (nL := 4) (L := [(0, .ref (ad 199)), (3, .int x3)]) (pcj := 71) (st := [.int v3, .int x2]) (fun ls hl => ?_) (fun K3 => ?_)
      · refine lv_iadd hx hb dX0_count_71 ?_
        refine lv_istore_n (lv' := [(2, .int (x2 + v3)), (0, .ref (ad 199)), (3, .int x3)]) hx hb dX0_count_72 rfl hl (by decide) rfl (fun ls hl => ?_)
        refine lv_iinc (v := x3 + 1) (lv' := [(3, .int (x3 + 1)), (2, .int (x2 + v3)), (0, .ref (ad 199))]) hx hb dX0_count_73 hl (k := 2) rfl (by rfl) (by decide) rfl (fun ls hl => ?_)
        refine lv_goto (tgt := 50) hx hb dX0_count_76 (by decide) ?_
        exact ih (x2 + v3) (x3 + 1) ls hf (lv_sub hl [2, 1, 0] rfl)
      · refine x_ifnn (tgt := 70) hx hb dX0_count_63 (by decide) (fun c4 => ?_) (fun c4 => ?_)
        · rw [if_neg c4] at hm3
          refine lv_iconst (v := 1) hx hb dX0_count_70 (by decide) ?_
          obtain rfl := so1 hm3
          exact K3 ls (lv_sub hl [0, 2] rfl)
        · rw [if_pos c4] at hm3
          refine lv_iconst (v := 0) hx hb dX0_count_66 (by decide) ?_
          refine lv_goto (tgt := 71) hx hb dX0_count_67 (by decide) ?_
          obtain rfl := so1 hm3
          exact K3 ls (lv_sub hl [0, 2] rfl)
def x_count (I : Nat → Int32) (A : Nat → Nat → Int32) (R : Nat → Option Nat) (G : Nat → Nat → Option Nat) (pl n : Nat) (ks : Nat → Nat) (a0 : Int32) : Option (Int32) :=
  if a0 = 0 then (ob2 (x_count_L50 I A R G pl n ks NF 0 0) fun (v2 : Int32) (v3 : Int32) =>
    some v2) else if a0 = 1 then (ob1 (p_many (sh 200 I) (sh 200 A) (sh 200 R) pl n ks) fun (v5 : Int32) =>
    some v5) else if a0 = 2 then (some (I 204)) else if a0 = 3 then (ob1 (ji_bitCount (I 210)) fun (v8 : Int32) =>
    some v8) else if a0 = 4 then (some (I 211)) else if a0 = 5 then (ob1 (p_crushed (sh 200 I) (sh 200 A) (sh 200 R) pl n ks) fun (v11 : Int32) =>
    some v11) else if a0 = 6 then (some (I 107)) else if a0 = 7 then (some (I 102)) else (some (-1000001))
set_option maxRecDepth 100000 in
set_option maxHeartbeats 4000000 in
theorem x_count_met (l : Launch) (D : dd_) (s0 : State) (h0 : ∀ w ∈ lw_tbl, va_Nw w s0) (ad : Nat → Nat) (X : va_W) (base : Nat) (I : Nat → Int32) (A : Nat → Nat → Int32) (R : Nat → Option Nat) (G : Nat → Nat → Option Nat) (pl n : Nat) (ks : Nat → Nat) (hR : RegX D X pl n ks) (a0 : Int32) (r : Int32) (hf : x_count I A R G pl n ks a0 = some r) : Met l yX0_count (ws_ yX0_count cX0_count 4 (some .int)) ({ frames := 8, cells := 0, slots := 0, locals := 184 }) (PcX D s0 xS ad I A R G X base [.ref (ad 199), .int a0]) (QcR (some (.int r))) 0 0 (fun _ => False) := by
  refine Met.ofW (cc := cX0_count) (maxL := 4) (ret := (some .int)) (by decide) rfl ?_
  intro p e s m args below meth c s₁ B hml hv
  obtain ⟨rfl, hK, hY, hB, hW⟩ := hv
  have hx := B.exec
  have hb := B.bytes
  have hr := B.returns
  have hts := atoms_spec (ws := (ws_ yX0_count cX0_count 4 (some .int))) B.pre
  have hts : ∀ w ∈ lw_all, w.before _ s = true := fun w h => hts w (List.mem_cons_of_mem _ h)
  have hown : s.vm.findClass RX0 = some m.cls := findClass_of_methodNamed B.named
  have hlocks := B.notSynchronized
  have hRf : 8 ≤ (headSpec (ws_ yX0_count cX0_count 4 (some .int)) ({ frames := 8, cells := 0, slots := 0, locals := 184 })).room.frames := Nat.le_refl _
  have hRl : 184 ≤ (headSpec (ws_ yX0_count cX0_count 4 (some .int)) ({ frames := 8, cells := 0, slots := 0, locals := 184 })).room.locals := Nat.le_refl _
  have hcs : 0 ≤ (headSpec (ws_ yX0_count cX0_count 4 (some .int)) ({ frames := 8, cells := 0, slots := 0, locals := 184 })).room.cells ∧ 0 ≤ (headSpec (ws_ yX0_count cX0_count 4 (some .int)) ({ frames := 8, cells := 0, slots := 0, locals := 184 })).room.slots := ⟨Nat.zero_le _, Nat.zero_le _⟩
  have hl := lv_entry ([.ref (ad 199), .int a0]) (n := 4) (Nat.le_of_ble_eq_true rfl)
  rw [lg_entry_eq]
  generalize (lg_sl ([.ref (ad 199), .int a0]) ++ List.replicate (4 - (lg_sl ([.ref (ad 199), .int a0])).length) Slot.unset).toArray = ls at hl ⊢
  have hl : lv_has ls 4 [(0, .ref (ad 199)), (1, .int a0)] := hl
  have hf : (if a0 = 0 then (ob2 (x_count_L50 I A R G pl n ks NF 0 0) fun (v2 : Int32) (v3 : Int32) =>
      some v2) else if a0 = 1 then (ob1 (p_many (sh 200 I) (sh 200 A) (sh 200 R) pl n ks) fun (v5 : Int32) =>
      some v5) else if a0 = 2 then (some (I 204)) else if a0 = 3 then (ob1 (ji_bitCount (I 210)) fun (v8 : Int32) =>
      some v8) else if a0 = 4 then (some (I 211)) else if a0 = 5 then (ob1 (p_crushed (sh 200 I) (sh 200 A) (sh 200 R) pl n ks) fun (v11 : Int32) =>
      some v11) else if a0 = 6 then (some (I 107)) else if a0 = 7 then (some (I 102)) else (some (-1000001))) = some r := hf
  refine lv_iconst (v := 0) hx hb dX0_count_0 (by decide) ?_
  refine lv_istore_n (lv' := [(2, .int 0), (0, .ref (ad 199)), (1, .int a0)]) hx hb dX0_count_1 rfl hl (by decide) rfl (fun ls hl => ?_)
  refine lv_iload_n hx hb dX0_count_2 rfl (lv_at hl 2 rfl) ?_
  by_cases c1 : a0 = 0
  · rw [if_pos c1] at hf
    refine g_tsI (tgt := 48) hx hb dX0_count_3 c1 (by decide) (by decide) rfl (by decide) ?_
    refine lv_iconst (v := 0) hx hb dX0_count_48 (by decide) ?_
    refine lv_istore_n (lv' := [(3, .int 0), (2, .int 0), (0, .ref (ad 199)), (1, .int a0)]) hx hb dX0_count_49 rfl hl (by decide) rfl (fun ls hl => ?_)
    obtain ⟨v2, v3, hq3, hf⟩ := ob2_e hf
    refine x_count_L50_w hx hb hml hown hts hK hY h0 hRf hRl hcs hB I A R G pl n ks hR hW v2 v3 (fun ls hl => ?_) NF 0 0 ls hq3 (lv_sub hl [2, 1, 0] rfl)
    refine lv_iload_n hx hb dX0_count_79 rfl (lv_at hl 0 rfl) ?_
    obtain rfl := so1 hf
    exact W.iret hx hb hr (fun t ht _ => ⟨rfl, ht⟩) (fun q hq => by cases hq) dX0_count_80
  · rw [if_neg c1] at hf
    by_cases c4 : a0 = 1
    · rw [if_pos c4] at hf
      refine g_tsI (tgt := 81) hx hb dX0_count_3 c4 (by decide) (by decide) rfl (by decide) ?_
      refine lv_aload_n hx hb dX0_count_81 rfl (lv_at hl 1 rfl) ?_
      refine x_get (v := .ref (ad 299)) hx hb hts hown hK hW xO199 in_X0 rfl 4 (by decide) q228 rfl rfl dX0_count_82 ?_
      obtain ⟨v5, h5, hf⟩ := ob1_e hf
      refine x_vR (ov := some (.int v5)) (D := D) (s0 := s0) (Sc := pS) (adc := (sh 200 ad)) (Ic := (sh 200 I)) (Ac := (sh 200 A)) (Rc := (sh 200 R)) (Gc := nG) (Xc := (xr200 D ad I A R G X)) (base := base) (As := []) (rest := []) (b := ad 299) (C := RX1) ⟨hx, hb, hml, hown, hts⟩ (p_many_met l D s0 h0 (sh 200 ad) (xr200 D ad I A R G X) base (sh 200 I) (sh 200 A) (sh 200 R) pl n ks (xrg200 hR)  v5 h5) (g_cwV 0 hts (lw_V q747 q602 q603 q77 q604) rfl rfl p_many_ds ⟨Nat.le_trans (Nat.le_of_ble_eq_true rfl) hRf, Nat.le_trans (Nat.le_of_ble_eq_true rfl) hRl⟩) (x_recv hK hW xO299 rfl) hK hY hB (xw200 hW) hcs rfl hl.1 rfl (Nat.le_of_ble_eq_true rfl) dX0_count_85 ?_
      obtain rfl := so1 hf
      exact W.iret hx hb hr (fun t ht _ => ⟨rfl, ht⟩) (fun q hq => by cases hq) dX0_count_88
    · rw [if_neg c4] at hf
      by_cases c6 : a0 = 2
      · rw [if_pos c6] at hf
        refine g_tsI (tgt := 89) hx hb dX0_count_3 c6 (by decide) (by decide) rfl (by decide) ?_
        refine lv_aload_n hx hb dX0_count_89 rfl (lv_at hl 1 rfl) ?_
        refine x_get (v := .ref (ad 299)) hx hb hts hown hK hW xO199 in_X0 rfl 4 (by decide) q228 rfl rfl dX0_count_90 ?_
        refine x_get (v := .int (I 204)) hx hb hts hown hK hW xO299 in_X1 rfl 4 (by decide) q168 rfl rfl dX0_count_93 ?_
        obtain rfl := so1 hf
        exact W.iret hx hb hr (fun t ht _ => ⟨rfl, ht⟩) (fun q hq => by cases hq) dX0_count_96
      · rw [if_neg c6] at hf
        by_cases c7 : a0 = 3
        · rw [if_pos c7] at hf
          refine g_tsI (tgt := 97) hx hb dX0_count_3 c7 (by decide) (by decide) rfl (by decide) ?_
          refine lv_aload_n hx hb dX0_count_97 rfl (lv_at hl 1 rfl) ?_
          refine x_get (v := .ref (ad 299)) hx hb hts hown hK hW xO199 in_X0 rfl 4 (by decide) q228 rfl rfl dX0_count_98 ?_
          refine x_get (v := .int (I 210)) hx hb hts hown hK hW xO299 in_X1 rfl 10 (by decide) q180 rfl rfl dX0_count_101 ?_
          obtain ⟨v8, h8, hf⟩ := ob1_e hf
          refine x_sR (ov := some (.int v8)) (D := D) (s0 := s0) (Sc := nS) (adc := ad) (Ic := (fun _ => 0)) (Ac := (fun _ _ => 0)) (Rc := nR) (Gc := nG) (Xc := []) (base := base) (As := [.int (I 210)]) (rest := []) ⟨hx, hb, hml, hown, hts⟩ (ji_bitCount_met l D s0 h0 ad [] base (I 210) v8 h8) (va_cwS 1 hts (lw_S q932 q933 q107 q934) rfl rfl rfl ji_bitCount_ds.2 ⟨Nat.le_trans (Nat.le_of_ble_eq_true rfl) hRf, Nat.le_trans (Nat.le_of_ble_eq_true rfl) hRl⟩) hK hY hB WX_nil hcs rfl hl.1 rfl (Nat.le_of_ble_eq_true rfl) dX0_count_104 ?_
          obtain rfl := so1 hf
          exact W.iret hx hb hr (fun t ht _ => ⟨rfl, ht⟩) (fun q hq => by cases hq) dX0_count_107
        · rw [if_neg c7] at hf
          by_cases c9 : a0 = 4
          · rw [if_pos c9] at hf
            refine g_tsI (tgt := 108) hx hb dX0_count_3 c9 (by decide) (by decide) rfl (by decide) ?_
            refine lv_aload_n hx hb dX0_count_108 rfl (lv_at hl 1 rfl) ?_
            refine x_get (v := .ref (ad 299)) hx hb hts hown hK hW xO199 in_X0 rfl 4 (by decide) q228 rfl rfl dX0_count_109 ?_
            refine x_get (v := .int (I 211)) hx hb hts hown hK hW xO299 in_X1 rfl 11 (by decide) q182 rfl rfl dX0_count_112 ?_
            obtain rfl := so1 hf
            exact W.iret hx hb hr (fun t ht _ => ⟨rfl, ht⟩) (fun q hq => by cases hq) dX0_count_115
          · rw [if_neg c9] at hf
            by_cases c10 : a0 = 5
            · rw [if_pos c10] at hf
              refine g_tsI (tgt := 116) hx hb dX0_count_3 c10 (by decide) (by decide) rfl (by decide) ?_
              refine lv_aload_n hx hb dX0_count_116 rfl (lv_at hl 1 rfl) ?_
              refine x_get (v := .ref (ad 299)) hx hb hts hown hK hW xO199 in_X0 rfl 4 (by decide) q228 rfl rfl dX0_count_117 ?_
              obtain ⟨v11, h11, hf⟩ := ob1_e hf
              refine x_vR (ov := some (.int v11)) (D := D) (s0 := s0) (Sc := pS) (adc := (sh 200 ad)) (Ic := (sh 200 I)) (Ac := (sh 200 A)) (Rc := (sh 200 R)) (Gc := nG) (Xc := (xr200 D ad I A R G X)) (base := base) (As := []) (rest := []) (b := ad 299) (C := RX1) ⟨hx, hb, hml, hown, hts⟩ (p_crushed_met l D s0 h0 (sh 200 ad) (xr200 D ad I A R G X) base (sh 200 I) (sh 200 A) (sh 200 R) pl n ks (xrg200 hR)  v11 h11) (g_cwV 0 hts (lw_V q889 q890 q891 q77 q892) rfl rfl p_crushed_ds ⟨Nat.le_trans (Nat.le_of_ble_eq_true rfl) hRf, Nat.le_trans (Nat.le_of_ble_eq_true rfl) hRl⟩) (x_recv hK hW xO299 rfl) hK hY hB (xw200 hW) hcs rfl hl.1 rfl (Nat.le_of_ble_eq_true rfl) dX0_count_120 ?_
              obtain rfl := so1 hf
              exact W.iret hx hb hr (fun t ht _ => ⟨rfl, ht⟩) (fun q hq => by cases hq) dX0_count_123
            · rw [if_neg c10] at hf
              by_cases c12 : a0 = 6
              · rw [if_pos c12] at hf
                refine g_tsI (tgt := 124) hx hb dX0_count_3 c12 (by decide) (by decide) rfl (by decide) ?_
                refine lv_aload_n hx hb dX0_count_124 rfl (lv_at hl 1 rfl) ?_
                refine x_get (v := .int (I 107)) hx hb hts hown hK hW xO199 in_X0 rfl 7 (by decide) q231 rfl rfl dX0_count_125 ?_
                obtain rfl := so1 hf
                exact W.iret hx hb hr (fun t ht _ => ⟨rfl, ht⟩) (fun q hq => by cases hq) dX0_count_128
              · rw [if_neg c12] at hf
                by_cases c13 : a0 = 7
                · rw [if_pos c13] at hf
                  refine g_tsI (tgt := 129) hx hb dX0_count_3 c13 (by decide) (by decide) rfl (by decide) ?_
                  refine lv_aload_n hx hb dX0_count_129 rfl (lv_at hl 1 rfl) ?_
                  refine x_get (v := .int (I 102)) hx hb hts hown hK hW xO199 in_X0 rfl 2 (by decide) q226 rfl rfl dX0_count_130 ?_
                  obtain rfl := so1 hf
                  exact W.iret hx hb hr (fun t ht _ => ⟨rfl, ht⟩) (fun q hq => by cases hq) dX0_count_133
                · rw [if_neg c13] at hf
                  refine lv_tableOut (tgt := 134) hx hb dX0_count_3 (by have z0 := lv_neT c1 (show (0 : Int32).toInt = 0 by decide); have z1 := lv_neT c4 (show (1 : Int32).toInt = 1 by decide); have z2 := lv_neT c6 (show (2 : Int32).toInt = 2 by decide); have z3 := lv_neT c7 (show (3 : Int32).toInt = 3 by decide); have z4 := lv_neT c9 (show (4 : Int32).toInt = 4 by decide); have z5 := lv_neT c10 (show (5 : Int32).toInt = 5 by decide); have z6 := lv_neT c12 (show (6 : Int32).toInt = 6 by decide); have z7 := lv_neT c13 (show (7 : Int32).toInt = 7 by decide); omega) (by decide) ?_
                  refine lv_ldc (v := (-1000001)) hx hb hown (hts _ q289) dX0_count_134 ?_
                  obtain rfl := so1 hf
                  exact W.iret hx hb hr (fun t ht _ => ⟨rfl, ht⟩) (fun q hq => by cases hq) dX0_count_136
theorem x_count_ds : yX0_count.cls = RX0 ∧ yX0_count.cls ≠ "java/lang/invoke/MethodHandle" ∧ yX0_count.cls ≠ "java/lang/invoke/VarHandle" ∧ (parseMethodDescriptor yX0_count.desc).map (fun d => d.parameters.length) = some 1 := by decide +kernel
theorem x_crossings_ds : yX0_crossings.cls = RX0 ∧ yX0_crossings.cls ≠ "java/lang/invoke/MethodHandle" ∧ yX0_crossings.cls ≠ "java/lang/invoke/VarHandle" ∧ (parseMethodDescriptor yX0_crossings.desc).map (fun d => d.parameters.length) = some 2 := by decide +kernel
def x_crossings_L13 (rec : (Nat → Int32) → (Nat → Nat → Int32) → (Nat → Option Nat) → (Nat → Nat → Option Nat) → Int32 → Int32 → Option (Int32)) (I : Nat → Int32) (A : Nat → Nat → Int32) (R : Nat → Option Nat) (G : Nat → Nat → Option Nat) (pl n : Nat) (ks : Nat → Nat) (u1 : Int32) (u2 : Int32) : Nat → Int32 → Int32 → Option (Int32 × Int32)
  | 0, _, _ => none
  | k + 1, x3, x4 =>
    if x4 ≤ 0 then (some (x3, x4)) else (ob1 (ji_numberOfTrailingZeros u1) fun (v2 : Int32) =>
      ob1 (x_has x4 v2) fun (v3 : Int32) =>
      ob1 (if v3 = 0 then ((some x3 : Option (Int32))) else (ob1 (x_weightOf I A R G pl n ks x4) fun (v6 : Int32) =>
          if v6 ≤ u2 then (ob1 (rec I A R G (u1 &&& (x4 ^^^ (-1))) u2) fun (v8 : Int32) =>
            ob1 (if v8 = (-1000000) then ((some x3 : Option (Int32))) else (if x3 = (-1000000) then ((some (v8 + 1) : Option (Int32))) else (if x3 ≤ (v8 + 1) then ((some x3 : Option (Int32))) else ((some (v8 + 1) : Option (Int32)))))) fun (v9 : Int32) =>
            (some v9 : Option (Int32))) else ((some x3 : Option (Int32))))) fun (v4 : Int32) =>
      x_crossings_L13 rec I A R G pl n ks u1 u2 k v4 ((x4 - 1) &&& u1))
set_option maxRecDepth 100000 in
set_option maxHeartbeats 4000000 in
theorem x_crossings_L13_w {p : Program} {l : Launch} {e : Env} {R0 : Room} {s : State} {m : MethodId} {args : Array Value} {below : List Frame} {meth : Method} {c : Code} {cells slots : Nat} {Q : State → Prop} {D : dd_} {s0 : State} {ad : Nat → Nat} {X : va_W} {base : Nat} (hx : p.tables.exec = Jvm.exec) (hb : c.code = cX0_crossings) (hml : c.maxLocals = 6) (hown : s.vm.findClass RX0 = some m.cls) (hts : ∀ w ∈ lw_all, w.before args s = true) (hK : Kx D s) (hY : s0.WarmedH s.vm) (h0 : ∀ w ∈ lw_tbl, va_Nw w s0) (hRf : 8 ≤ R0.frames) (hRl : 185 ≤ R0.locals) (hcs : cells ≤ R0.cells ∧ slots ≤ R0.slots) (d : Nat) {H : Heap} {locs : List Loc} (hB : base ≤ H.size) (rec : (Nat → Int32) → (Nat → Nat → Int32) → (Nat → Option Nat) → (Nat → Nat → Option Nat) → Int32 → Int32 → Option (Int32)) (I : Nat → Int32) (A : Nat → Nat → Int32) (R : Nat → Option Nat) (G : Nat → Nat → Option Nat) (pl n : Nat) (ks : Nat → Nat) (u1 : Int32) (u2 : Int32) (hR : RegX D X pl n ks) (hrec : ∀ (I : Nat → Int32) (A : Nat → Nat → Int32) (R : Nat → Option Nat) (G : Nat → Nat → Option Nat) (a0 : Int32) (a1 : Int32) (r : Int32), rec I A R G a0 a1 = some r → Met l yX0_crossings (ws_ yX0_crossings cX0_crossings 6 (some .int)) ({ frames := 8 + d, cells := 0, slots := 0, locals := 185 + 25 * d }) (PcX D s0 xS ad I A R G X base [.ref (ad 199), .int a0, .int a1]) (QcR (some (.int r))) 0 0 (fun _ => False)) (hRd : 8 + (d + 1) ≤ R0.frames) (hLd : 185 + 25 * (d + 1) ≤ R0.locals) (hW : WX D xS ad I A R G X H) (y3 : Int32) (y4 : Int32) (KX : ∀ (ls : Array Slot), lv_has ls 6 [(3, .int y3)] → W p l e R0 s m args below meth c H locs cells slots Q (F0 m 99 ls [])) : ∀ (k : Nat) (x3 : Int32) (x4 : Int32) (ls : Array Slot), x_crossings_L13 rec I A R G pl n ks u1 u2 k x3 x4 = some (y3, y4) → lv_has ls 6 [(0, .ref (ad 199)), (1, .int u1), (2, .int u2), (3, .int x3), (4, .int x4)] → W p l e R0 s m args below meth c H locs cells slots Q (F0 m 13 ls []) := by
  intro k
  induction k with
  | zero =>
    intro x3 x4 ls hf
    exact nomatch (show (none : Option (Int32 × Int32)) = some (y3, y4) from hf)
  | succ k ih =>
    intro x3 x4 ls hf hl
    have hf : (if x4 ≤ 0 then (some (x3, x4)) else (ob1 (ji_numberOfTrailingZeros u1) fun (v2 : Int32) =>
          ob1 (x_has x4 v2) fun (v3 : Int32) =>
          ob1 (if v3 = 0 then ((some x3 : Option (Int32))) else (ob1 (x_weightOf I A R G pl n ks x4) fun (v6 : Int32) =>
              if v6 ≤ u2 then (ob1 (rec I A R G (u1 &&& (x4 ^^^ (-1))) u2) fun (v8 : Int32) =>
                ob1 (if v8 = (-1000000) then ((some x3 : Option (Int32))) else (if x3 = (-1000000) then ((some (v8 + 1) : Option (Int32))) else (if x3 ≤ (v8 + 1) then ((some x3 : Option (Int32))) else ((some (v8 + 1) : Option (Int32)))))) fun (v9 : Int32) =>
                (some v9 : Option (Int32))) else ((some x3 : Option (Int32))))) fun (v4 : Int32) =>
          x_crossings_L13 rec I A R G pl n ks u1 u2 k v4 ((x4 - 1) &&& u1))) = some (y3, y4) := hf
    refine lv_iload hx hb dX0_crossings_13 (lv_at hl 4 rfl) ?_
    refine lv_if_le (tgt := 99) hx hb dX0_crossings_15 (by decide) (fun c1 => ?_) (fun c1 => ?_)
    · rw [if_pos c1] at hf
      obtain ⟨rfl, rfl⟩ := so2 hf
      exact KX ls (lv_sub hl [3] rfl)
    · rw [if_neg c1] at hf
      refine lv_iload hx hb dX0_crossings_18 (lv_at hl 4 rfl) ?_
      refine lv_iload_n hx hb dX0_crossings_20 rfl (lv_at hl 1 rfl) ?_
      obtain ⟨v2, h2, hf⟩ := ob1_e hf
      refine x_sR (ov := some (.int v2)) (D := D) (s0 := s0) (Sc := nS) (adc := ad) (Ic := (fun _ => 0)) (Ac := (fun _ _ => 0)) (Rc := nR) (Gc := nG) (Xc := []) (base := base) (As := [.int u1]) (rest := [.int x4]) ⟨hx, hb, hml, hown, hts⟩ (ji_numberOfTrailingZeros_met l D s0 h0 ad [] base u1 v2 h2) (va_cwS 1 hts (lw_S q960 q961 q107 q962) rfl rfl rfl ji_numberOfTrailingZeros_ds.2 ⟨Nat.le_trans (Nat.le_of_ble_eq_true rfl) hRf, Nat.le_trans (Nat.le_of_ble_eq_true rfl) hRl⟩) hK hY hB WX_nil hcs rfl hl.1 rfl (Nat.le_of_ble_eq_true rfl) dX0_crossings_21 ?_
      obtain ⟨v3, h3, hf⟩ := ob1_e hf
      refine x_sR (ov := some (.int v3)) (D := D) (s0 := s0) (Sc := nS) (adc := ad) (Ic := (fun _ => 0)) (Ac := (fun _ _ => 0)) (Rc := nR) (Gc := nG) (Xc := []) (base := base) (As := [.int x4, .int v2]) (rest := []) ⟨hx, hb, hml, hown, hts⟩ (x_has_met l D s0 h0 ad [] base x4 v2 v3 h3) (va_cwS 2 hts (lw_S q853 q784 q76 q785) rfl rfl rfl x_has_ds.2 ⟨Nat.le_trans (Nat.le_of_ble_eq_true rfl) hRf, Nat.le_trans (Nat.le_of_ble_eq_true rfl) hRl⟩) hK hY hB WX_nil hcs rfl hl.1 rfl (Nat.le_of_ble_eq_true rfl) dX0_crossings_24 ?_
      obtain ⟨v4, hm4, hf⟩ := ob1_e hf
      refine w_cutL (nL := 6) (L := [(0, .ref (ad 199)), (1, .int u1), (2, .int u2), (3, .int v4), (4, .int x4)]) (pcj := 88) (st := []) (fun ls hl => ?_) (fun K4 => ?_)
      · refine lv_iload hx hb dX0_crossings_88 (lv_at hl 4 rfl) ?_
        refine lv_iconst (v := 1) hx hb dX0_crossings_90 (by decide) ?_
        refine lv_isub hx hb dX0_crossings_91 ?_
        refine lv_iload_n hx hb dX0_crossings_92 rfl (lv_at hl 1 rfl) ?_
        refine lv_iand hx hb dX0_crossings_93 ?_
        refine lv_istore (lv' := [(4, .int ((x4 - 1) &&& u1)), (0, .ref (ad 199)), (1, .int u1), (2, .int u2), (3, .int v4)]) hx hb dX0_crossings_94 hl (by decide) rfl (fun ls hl => ?_)
        refine lv_goto (tgt := 13) hx hb dX0_crossings_96 (by decide) ?_
        exact ih v4 ((x4 - 1) &&& u1) ls hf (lv_sub hl [1, 2, 3, 4, 0] rfl)
      · refine lv_if_eq (tgt := 88) hx hb dX0_crossings_27 (by decide) (fun c5 => ?_) (fun c5 => ?_)
        · rw [if_pos c5] at hm4
          obtain rfl := so1 hm4
          exact K4 ls (lv_sub hl [0, 1, 2, 3, 4] rfl)
        · rw [if_neg c5] at hm4
          refine lv_aload_n hx hb dX0_crossings_30 rfl (lv_at hl 0 rfl) ?_
          refine lv_iload hx hb dX0_crossings_31 (lv_at hl 4 rfl) ?_
          obtain ⟨v6, h6, hm4⟩ := ob1_e hm4
          refine x_vR (ov := some (.int v6)) (D := D) (s0 := s0) (Sc := xS) (adc := ad) (Ic := I) (Ac := A) (Rc := R) (Gc := G) (Xc := X) (base := base) (As := [.int x4]) (rest := []) (b := ad 199) (C := RX0) ⟨hx, hb, hml, hown, hts⟩ (x_weightOf_met l D s0 h0 ad X base I A R G pl n ks hR x4 v6 h6) (g_cwV 1 hts (lw_V q964 q966 qs26 q76 q967) rfl rfl x_weightOf_ds ⟨Nat.le_trans (Nat.le_of_ble_eq_true rfl) hRf, Nat.le_trans (Nat.le_of_ble_eq_true rfl) hRl⟩) (x_recv hK hW xO199 rfl) hK hY hB hW hcs rfl hl.1 rfl (Nat.le_of_ble_eq_true rfl) dX0_crossings_33 ?_
          refine lv_iload_n hx hb dX0_crossings_36 rfl (lv_at hl 2 rfl) ?_
          refine lv_icmp_le (tgt := 43) hx hb dX0_crossings_37 (by decide) (fun c7 => ?_) (fun c7 => ?_)
          · rw [if_pos c7] at hm4
            refine lv_aload_n hx hb dX0_crossings_43 rfl (lv_at hl 0 rfl) ?_
            refine lv_iload_n hx hb dX0_crossings_44 rfl (lv_at hl 1 rfl) ?_
            refine lv_iload hx hb dX0_crossings_45 (lv_at hl 4 rfl) ?_
            refine lv_iconst (v := (-1)) hx hb dX0_crossings_47 (by decide) ?_
            refine lv_ixor hx hb dX0_crossings_48 ?_
            refine lv_iand hx hb dX0_crossings_49 ?_
            refine lv_iload_n hx hb dX0_crossings_50 rfl (lv_at hl 2 rfl) ?_
            obtain ⟨v8, h8, hm4⟩ := ob1_e hm4
            refine x_vR (ov := some (.int v8)) (D := D) (s0 := s0) (Sc := xS) (adc := ad) (Ic := I) (Ac := A) (Rc := R) (Gc := G) (Xc := X) (base := base) (As := [.int (u1 &&& (x4 ^^^ (-1))), .int u2]) (rest := []) (b := ad 199) (C := RX0) ⟨hx, hb, hml, hown, hts⟩ (hrec I A R G (u1 &&& (x4 ^^^ (-1))) u2 v8 h8) (g_cwV 2 hts (lw_V q956 q958 qs25 q76 q959) rfl rfl x_crossings_ds ⟨by dsimp only; omega, by dsimp only; omega⟩) (x_recv hK hW xO199 rfl) hK hY hB hW hcs rfl hl.1 rfl (Nat.le_of_ble_eq_true rfl) dX0_crossings_51 ?_
            refine lv_istore (lv' := [(5, .int v8), (0, .ref (ad 199)), (1, .int u1), (2, .int u2), (3, .int x3), (4, .int x4)]) hx hb dX0_crossings_54 hl (by decide) rfl (fun ls hl => ?_)
            refine lv_iload hx hb dX0_crossings_56 (lv_at hl 0 rfl) ?_
            refine lv_ldcw (v := (-1000000)) hx hb hown (hts _ q941) dX0_crossings_58 ?_
            obtain ⟨v9, hm9, hm4⟩ := ob1_e hm4
            refine w_cutL (nL := 6) (L := [(0, .ref (ad 199)), (1, .int u1), (2, .int u2), (4, .int x4)]) (pcj := 87) (st := [.int v9]) (fun ls hl => ?_) (fun K9 => ?_)
            · refine lv_istore_n (lv' := [(3, .int v9), (0, .ref (ad 199)), (1, .int u1), (2, .int u2), (4, .int x4)]) hx hb dX0_crossings_87 rfl hl (by decide) rfl (fun ls hl => ?_)
              obtain rfl := so1 hm4
              exact K4 ls (lv_sub hl [1, 2, 3, 0, 4] rfl)
            · refine lv_icmp_eq (tgt := 86) hx hb dX0_crossings_61 (by decide) (fun c10 => ?_) (fun c10 => ?_)
              · rw [if_pos c10] at hm9
                refine lv_iload_n hx hb dX0_crossings_86 rfl (lv_at hl 4 rfl) ?_
                obtain rfl := so1 hm9
                exact K9 ls (lv_sub hl [1, 2, 3, 5] rfl)
              · rw [if_neg c10] at hm9
                refine lv_iload_n hx hb dX0_crossings_64 rfl (lv_at hl 4 rfl) ?_
                refine lv_ldcw (v := (-1000000)) hx hb hown (hts _ q941) dX0_crossings_65 ?_
                refine lv_icmp_eq (tgt := 79) hx hb dX0_crossings_68 (by decide) (fun c11 => ?_) (fun c11 => ?_)
                · rw [if_pos c11] at hm9
                  refine lv_iload hx hb dX0_crossings_79 (lv_at hl 0 rfl) ?_
                  refine lv_iconst (v := 1) hx hb dX0_crossings_81 (by decide) ?_
                  refine lv_iadd hx hb dX0_crossings_82 ?_
                  refine lv_goto (tgt := 87) hx hb dX0_crossings_83 (by decide) ?_
                  obtain rfl := so1 hm9
                  exact K9 ls (lv_sub hl [1, 2, 3, 5] rfl)
                · rw [if_neg c11] at hm9
                  refine lv_iload hx hb dX0_crossings_71 (lv_at hl 0 rfl) ?_
                  refine lv_iconst (v := 1) hx hb dX0_crossings_73 (by decide) ?_
                  refine lv_iadd hx hb dX0_crossings_74 ?_
                  refine lv_iload_n hx hb dX0_crossings_75 rfl (lv_at hl 4 rfl) ?_
                  refine lv_icmp_ge (tgt := 86) hx hb dX0_crossings_76 (by decide) (fun c12 => ?_) (fun c12 => ?_)
                  · rw [if_pos c12] at hm9
                    refine lv_iload_n hx hb dX0_crossings_86 rfl (lv_at hl 4 rfl) ?_
                    obtain rfl := so1 hm9
                    exact K9 ls (lv_sub hl [1, 2, 3, 5] rfl)
                  · rw [if_neg c12] at hm9
                    refine lv_iload hx hb dX0_crossings_79 (lv_at hl 0 rfl) ?_
                    refine lv_iconst (v := 1) hx hb dX0_crossings_81 (by decide) ?_
                    refine lv_iadd hx hb dX0_crossings_82 ?_
                    refine lv_goto (tgt := 87) hx hb dX0_crossings_83 (by decide) ?_
                    obtain rfl := so1 hm9
                    exact K9 ls (lv_sub hl [1, 2, 3, 5] rfl)
          · rw [if_neg c7] at hm4
            refine lv_goto (tgt := 88) hx hb dX0_crossings_40 (by decide) ?_
            obtain rfl := so1 hm4
            exact K4 ls (lv_sub hl [0, 1, 2, 3, 4] rfl)
def x_crossings (pl n : Nat) (ks : Nat → Nat) : Nat → (Nat → Int32) → (Nat → Nat → Int32) → (Nat → Option Nat) → (Nat → Nat → Option Nat) → Int32 → Int32 → Option (Int32)
  | 0, _, _, _, _, _, _ => none
  | d + 1, I, A, R, G, a0, a1 =>
    if a0 = 0 then (some 0) else (ob2 (x_crossings_L13 (x_crossings pl n ks d) I A R G pl n ks a0 a1 NF (-1000000) a0) fun (v2 : Int32) (v3 : Int32) =>
      some v2)
set_option maxRecDepth 100000 in
set_option maxHeartbeats 4000000 in
theorem x_crossings_met (l : Launch) (D : dd_) (s0 : State) (h0 : ∀ w ∈ lw_tbl, va_Nw w s0) (ad : Nat → Nat) (X : va_W) (base : Nat) (pl n : Nat) (ks : Nat → Nat) (hR : RegX D X pl n ks) : ∀ (d : Nat) (I : Nat → Int32) (A : Nat → Nat → Int32) (R : Nat → Option Nat) (G : Nat → Nat → Option Nat) (a0 : Int32) (a1 : Int32) (r : Int32), x_crossings pl n ks d I A R G a0 a1 = some r → Met l yX0_crossings (ws_ yX0_crossings cX0_crossings 6 (some .int)) ({ frames := 8 + d, cells := 0, slots := 0, locals := 185 + 25 * d }) (PcX D s0 xS ad I A R G X base [.ref (ad 199), .int a0, .int a1]) (QcR (some (.int r))) 0 0 (fun _ => False) := by
  intro d
  induction d with
  | zero =>
    intro I A R G a0 a1 r hf
    exact nomatch (show (none : Option (Int32)) = some r from hf)
  | succ d ih =>
    intro I A R G a0 a1 r hf
    refine Met.ofW (cc := cX0_crossings) (maxL := 6) (ret := (some .int)) (by decide) rfl ?_
    intro p e s m args below meth c s₁ B hml hv
    obtain ⟨rfl, hK, hY, hB, hW⟩ := hv
    have hx := B.exec
    have hb := B.bytes
    have hr := B.returns
    have hts := atoms_spec (ws := (ws_ yX0_crossings cX0_crossings 6 (some .int))) B.pre
    have hts : ∀ w ∈ lw_all, w.before _ s = true := fun w h => hts w (List.mem_cons_of_mem _ h)
    have hown : s.vm.findClass RX0 = some m.cls := findClass_of_methodNamed B.named
    have hlocks := B.notSynchronized
    have hRd : 8 + (d + 1) ≤ (headSpec (ws_ yX0_crossings cX0_crossings 6 (some .int)) ({ frames := 8 + (d + 1), cells := 0, slots := 0, locals := 185 + 25 * (d + 1) })).room.frames := Nat.le_refl _
    have hLd : 185 + 25 * (d + 1) ≤ (headSpec (ws_ yX0_crossings cX0_crossings 6 (some .int)) ({ frames := 8 + (d + 1), cells := 0, slots := 0, locals := 185 + 25 * (d + 1) })).room.locals := Nat.le_refl _
    have hRf : 8 ≤ (headSpec (ws_ yX0_crossings cX0_crossings 6 (some .int)) ({ frames := 8 + (d + 1), cells := 0, slots := 0, locals := 185 + 25 * (d + 1) })).room.frames := Nat.le_trans (Nat.le_add_right _ _) hRd
    have hRl : 185 ≤ (headSpec (ws_ yX0_crossings cX0_crossings 6 (some .int)) ({ frames := 8 + (d + 1), cells := 0, slots := 0, locals := 185 + 25 * (d + 1) })).room.locals := Nat.le_trans (Nat.le_add_right _ _) hLd
    have hcs : 0 ≤ (headSpec (ws_ yX0_crossings cX0_crossings 6 (some .int)) ({ frames := 8 + (d + 1), cells := 0, slots := 0, locals := 185 + 25 * (d + 1) })).room.cells ∧ 0 ≤ (headSpec (ws_ yX0_crossings cX0_crossings 6 (some .int)) ({ frames := 8 + (d + 1), cells := 0, slots := 0, locals := 185 + 25 * (d + 1) })).room.slots := ⟨Nat.zero_le _, Nat.zero_le _⟩
    have hl := lv_entry ([.ref (ad 199), .int a0, .int a1]) (n := 6) (Nat.le_of_ble_eq_true rfl)
    rw [lg_entry_eq]
    generalize (lg_sl ([.ref (ad 199), .int a0, .int a1]) ++ List.replicate (6 - (lg_sl ([.ref (ad 199), .int a0, .int a1])).length) Slot.unset).toArray = ls at hl ⊢
    have hl : lv_has ls 6 [(0, .ref (ad 199)), (1, .int a0), (2, .int a1)] := hl
    have hf : (if a0 = 0 then (some 0) else (ob2 (x_crossings_L13 (x_crossings pl n ks d) I A R G pl n ks a0 a1 NF (-1000000) a0) fun (v2 : Int32) (v3 : Int32) =>
        some v2)) = some r := hf
    refine lv_iload_n hx hb dX0_crossings_0 rfl (lv_at hl 1 rfl) ?_
    refine lv_if_ne (tgt := 6) hx hb dX0_crossings_1 (by decide) (fun c1 => ?_) (fun c1 => ?_)
    · rw [if_neg c1] at hf
      refine lv_ldcw (v := (-1000000)) hx hb hown (hts _ q941) dX0_crossings_6 ?_
      refine lv_istore_n (lv' := [(3, .int (-1000000)), (0, .ref (ad 199)), (1, .int a0), (2, .int a1)]) hx hb dX0_crossings_9 rfl hl (by decide) rfl (fun ls hl => ?_)
      refine lv_iload_n hx hb dX0_crossings_10 rfl (lv_at hl 2 rfl) ?_
      refine lv_istore (lv' := [(4, .int a0), (3, .int (-1000000)), (0, .ref (ad 199)), (1, .int a0), (2, .int a1)]) hx hb dX0_crossings_11 hl (by decide) rfl (fun ls hl => ?_)
      obtain ⟨v2, v3, hq3, hf⟩ := ob2_e hf
      refine x_crossings_L13_w hx hb hml hown hts hK hY h0 hRf hRl hcs d hB (x_crossings pl n ks d) I A R G pl n ks a0 a1 hR ih hRd hLd hW v2 v3 (fun ls hl => ?_) NF (-1000000) a0 ls hq3 (lv_sub hl [2, 3, 4, 1, 0] rfl)
      refine lv_iload_n hx hb dX0_crossings_99 rfl (lv_at hl 0 rfl) ?_
      obtain rfl := so1 hf
      exact W.iret hx hb hr (fun t ht _ => ⟨rfl, ht⟩) (fun q hq => by cases hq) dX0_crossings_100
    · rw [if_pos c1] at hf
      refine lv_iconst (v := 0) hx hb dX0_crossings_4 (by decide) ?_
      obtain rfl := so1 hf
      exact W.iret hx hb hr (fun t ht _ => ⟨rfl, ht⟩) (fun q hq => by cases hq) dX0_crossings_5
def x_boat (I : Nat → Int32) (A : Nat → Nat → Int32) (R : Nat → Option Nat) (G : Nat → Nat → Option Nat) (pl n : Nat) (ks : Nat → Nat) (a0 : Int32) : Option (Int32) :=
  ob1 (x_isParish I A R G pl n ks) fun (v1 : Int32) =>
  if v1 = 0 then (some (-1000002)) else (ob1 (x_isIn a0.toInt64 20 99) fun (v3 : Int32) =>
    ob1 (if v3 = 0 then ((some (-1000001) : Option (Int32))) else (ob1 (p_many (sh 200 I) (sh 200 A) (sh 200 R) pl n ks) fun (v6 : Int32) =>
        ob1 (x_crossings pl n ks 12 I A R G (((1 : Int32) <<< (v6 &&& 31)) - 1) a0) fun (v7 : Int32) =>
        (some v7 : Option (Int32)))) fun (v4 : Int32) =>
    some v4)
set_option maxRecDepth 100000 in
set_option maxHeartbeats 4000000 in
theorem x_boat_met (l : Launch) (D : dd_) (s0 : State) (h0 : ∀ w ∈ lw_tbl, va_Nw w s0) (ad : Nat → Nat) (X : va_W) (base : Nat) (I : Nat → Int32) (A : Nat → Nat → Int32) (R : Nat → Option Nat) (G : Nat → Nat → Option Nat) (pl n : Nat) (ks : Nat → Nat) (hR : RegX D X pl n ks) (a0 : Int32) (r : Int32) (hf : x_boat I A R G pl n ks a0 = some r) : Met l yX0_boat (ws_ yX0_boat cX0_boat 2 (some .int)) ({ frames := 21, cells := 0, slots := 0, locals := 510 }) (PcX D s0 xS ad I A R G X base [.ref (ad 199), .int a0]) (QcR (some (.int r))) 0 0 (fun _ => False) := by
  refine Met.ofW (cc := cX0_boat) (maxL := 2) (ret := (some .int)) (by decide) rfl ?_
  intro p e s m args below meth c s₁ B hml hv
  obtain ⟨rfl, hK, hY, hB, hW⟩ := hv
  have hx := B.exec
  have hb := B.bytes
  have hr := B.returns
  have hts := atoms_spec (ws := (ws_ yX0_boat cX0_boat 2 (some .int))) B.pre
  have hts : ∀ w ∈ lw_all, w.before _ s = true := fun w h => hts w (List.mem_cons_of_mem _ h)
  have hown : s.vm.findClass RX0 = some m.cls := findClass_of_methodNamed B.named
  have hlocks := B.notSynchronized
  have hRf : 21 ≤ (headSpec (ws_ yX0_boat cX0_boat 2 (some .int)) ({ frames := 21, cells := 0, slots := 0, locals := 510 })).room.frames := Nat.le_refl _
  have hRl : 510 ≤ (headSpec (ws_ yX0_boat cX0_boat 2 (some .int)) ({ frames := 21, cells := 0, slots := 0, locals := 510 })).room.locals := Nat.le_refl _
  have hcs : 0 ≤ (headSpec (ws_ yX0_boat cX0_boat 2 (some .int)) ({ frames := 21, cells := 0, slots := 0, locals := 510 })).room.cells ∧ 0 ≤ (headSpec (ws_ yX0_boat cX0_boat 2 (some .int)) ({ frames := 21, cells := 0, slots := 0, locals := 510 })).room.slots := ⟨Nat.zero_le _, Nat.zero_le _⟩
  have hl := lv_entry ([.ref (ad 199), .int a0]) (n := 2) (Nat.le_of_ble_eq_true rfl)
  rw [lg_entry_eq]
  generalize (lg_sl ([.ref (ad 199), .int a0]) ++ List.replicate (2 - (lg_sl ([.ref (ad 199), .int a0])).length) Slot.unset).toArray = ls at hl ⊢
  have hl : lv_has ls 2 [(0, .ref (ad 199)), (1, .int a0)] := hl
  have hf : (ob1 (x_isParish I A R G pl n ks) fun (v1 : Int32) =>
    if v1 = 0 then (some (-1000002)) else (ob1 (x_isIn a0.toInt64 20 99) fun (v3 : Int32) =>
      ob1 (if v3 = 0 then ((some (-1000001) : Option (Int32))) else (ob1 (p_many (sh 200 I) (sh 200 A) (sh 200 R) pl n ks) fun (v6 : Int32) =>
          ob1 (x_crossings pl n ks 12 I A R G (((1 : Int32) <<< (v6 &&& 31)) - 1) a0) fun (v7 : Int32) =>
          (some v7 : Option (Int32)))) fun (v4 : Int32) =>
      some v4)) = some r := hf
  refine lv_aload_n hx hb dX0_boat_0 rfl (lv_at hl 0 rfl) ?_
  obtain ⟨v1, h1, hf⟩ := ob1_e hf
  refine x_vR (ov := some (.int v1)) (D := D) (s0 := s0) (Sc := xS) (adc := ad) (Ic := I) (Ac := A) (Rc := R) (Gc := G) (Xc := X) (base := base) (As := []) (rest := []) (b := ad 199) (C := RX0) ⟨hx, hb, hml, hown, hts⟩ (x_isParish_met l D s0 h0 ad X base I A R G pl n ks hR  v1 h1) (g_cwV 0 hts (lw_V q863 q865 qs21 q76 q866) rfl rfl x_isParish_ds ⟨Nat.le_trans (Nat.le_of_ble_eq_true rfl) hRf, Nat.le_trans (Nat.le_of_ble_eq_true rfl) hRl⟩) (x_recv hK hW xO199 rfl) hK hY hB hW hcs rfl hl.1 rfl (Nat.le_of_ble_eq_true rfl) dX0_boat_1 ?_
  refine lv_if_ne (tgt := 10) hx hb dX0_boat_4 (by decide) (fun c2 => ?_) (fun c2 => ?_)
  · rw [if_neg c2] at hf
    refine lv_iload_n hx hb dX0_boat_10 rfl (lv_at hl 1 rfl) ?_
    refine lv_i2l (v := a0.toInt64) hx hb dX0_boat_11 rfl ?_
    refine lv_ldc2 (v := 20) hx hb hown (hts _ q838) dX0_boat_12 ?_
    refine lv_ldc2 (v := 99) hx hb hown (hts _ q839) dX0_boat_15 ?_
    obtain ⟨v3, h3, hf⟩ := ob1_e hf
    refine x_sR (ov := some (.int v3)) (D := D) (s0 := s0) (Sc := nS) (adc := ad) (Ic := (fun _ => 0)) (Ac := (fun _ _ => 0)) (Rc := nR) (Gc := nG) (Xc := []) (base := base) (As := [.long a0.toInt64, .long 20, .long 99]) (rest := []) ⟨hx, hb, hml, hown, hts⟩ (x_isIn_met l D s0 h0 ad [] base a0.toInt64 20 99 v3 h3) (va_cwS 3 hts (lw_S q285 q286 q76 q287) rfl rfl rfl x_isIn_ds.2 ⟨Nat.le_trans (Nat.le_of_ble_eq_true rfl) hRf, Nat.le_trans (Nat.le_of_ble_eq_true rfl) hRl⟩) hK hY hB WX_nil hcs rfl hl.1 rfl (Nat.le_of_ble_eq_true rfl) dX0_boat_18 ?_
    obtain ⟨v4, hm4, hf⟩ := ob1_e hf
    refine w_cutL (nL := 2) (L := []) (pcj := 45) (st := [.int v4]) (fun ls hl => ?_) (fun K4 => ?_)
    · obtain rfl := so1 hf
      exact W.iret hx hb hr (fun t ht _ => ⟨rfl, ht⟩) (fun q hq => by cases hq) dX0_boat_45
    · refine lv_if_eq (tgt := 43) hx hb dX0_boat_21 (by decide) (fun c5 => ?_) (fun c5 => ?_)
      · rw [if_pos c5] at hm4
        refine lv_ldc (v := (-1000001)) hx hb hown (hts _ q289) dX0_boat_43 ?_
        obtain rfl := so1 hm4
        exact K4 ls (lv_sub hl [] rfl)
      · rw [if_neg c5] at hm4
        refine lv_aload_n hx hb dX0_boat_24 rfl (lv_at hl 0 rfl) ?_
        refine lv_iconst (v := 1) hx hb dX0_boat_25 (by decide) ?_
        refine lv_aload_n hx hb dX0_boat_26 rfl (lv_at hl 0 rfl) ?_
        refine x_get (v := .ref (ad 299)) hx hb hts hown hK hW xO199 in_X0 rfl 4 (by decide) q228 rfl rfl dX0_boat_27 ?_
        obtain ⟨v6, h6, hm4⟩ := ob1_e hm4
        refine x_vR (ov := some (.int v6)) (D := D) (s0 := s0) (Sc := pS) (adc := (sh 200 ad)) (Ic := (sh 200 I)) (Ac := (sh 200 A)) (Rc := (sh 200 R)) (Gc := nG) (Xc := (xr200 D ad I A R G X)) (base := base) (As := []) (rest := [.int 1, .ref (ad 199)]) (b := ad 299) (C := RX1) ⟨hx, hb, hml, hown, hts⟩ (p_many_met l D s0 h0 (sh 200 ad) (xr200 D ad I A R G X) base (sh 200 I) (sh 200 A) (sh 200 R) pl n ks (xrg200 hR)  v6 h6) (g_cwV 0 hts (lw_V q747 q602 q603 q77 q604) rfl rfl p_many_ds ⟨Nat.le_trans (Nat.le_of_ble_eq_true rfl) hRf, Nat.le_trans (Nat.le_of_ble_eq_true rfl) hRl⟩) (x_recv hK hW xO299 rfl) hK hY hB (xw200 hW) hcs rfl hl.1 rfl (Nat.le_of_ble_eq_true rfl) dX0_boat_30 ?_
        refine lv_ishl hx hb dX0_boat_33 ?_
        refine lv_iconst (v := 1) hx hb dX0_boat_34 (by decide) ?_
        refine lv_isub hx hb dX0_boat_35 ?_
        refine lv_iload_n hx hb dX0_boat_36 rfl (lv_at hl 1 rfl) ?_
        obtain ⟨v7, h7, hm4⟩ := ob1_e hm4
        refine x_vR (ov := some (.int v7)) (D := D) (s0 := s0) (Sc := xS) (adc := ad) (Ic := I) (Ac := A) (Rc := R) (Gc := G) (Xc := X) (base := base) (As := [.int (((1 : Int32) <<< (v6 &&& 31)) - 1), .int a0]) (rest := []) (b := ad 199) (C := RX0) ⟨hx, hb, hml, hown, hts⟩ (x_crossings_met l D s0 h0 ad X base pl n ks hR 12 I A R G (((1 : Int32) <<< (v6 &&& 31)) - 1) a0 v7 h7) (g_cwV 2 hts (lw_V q956 q958 qs25 q76 q959) rfl rfl x_crossings_ds ⟨Nat.le_trans (Nat.le_of_ble_eq_true rfl) hRf, Nat.le_trans (Nat.le_of_ble_eq_true rfl) hRl⟩) (x_recv hK hW xO199 rfl) hK hY hB hW hcs rfl hl.1 rfl (Nat.le_of_ble_eq_true rfl) dX0_boat_37 ?_
        refine lv_goto (tgt := 45) hx hb dX0_boat_40 (by decide) ?_
        obtain rfl := so1 hm4
        exact K4 ls (lv_sub hl [] rfl)
  · rw [if_pos c2] at hf
    refine lv_ldc (v := (-1000002)) hx hb hown (hts _ q756) dX0_boat_7 ?_
    obtain rfl := so1 hf
    exact W.iret hx hb hr (fun t ht _ => ⟨rfl, ht⟩) (fun q hq => by cases hq) dX0_boat_9
theorem x_boat_ds : yX0_boat.cls = RX0 ∧ yX0_boat.cls ≠ "java/lang/invoke/MethodHandle" ∧ yX0_boat.cls ≠ "java/lang/invoke/VarHandle" ∧ (parseMethodDescriptor yX0_boat.desc).map (fun d => d.parameters.length) = some 1 := by decide +kernel
theorem x_keepFrom_ds : yX0_keepFrom.cls = RX0 ∧ yX0_keepFrom.cls ≠ "java/lang/invoke/MethodHandle" ∧ yX0_keepFrom.cls ≠ "java/lang/invoke/VarHandle" ∧ (parseMethodDescriptor yX0_keepFrom.desc).map (fun d => d.parameters.length) = some 5 := by decide +kernel
def x_keepFrom_L43 (rec : (Nat → Int32) → (Nat → Nat → Int32) → (Nat → Option Nat) → (Nat → Nat → Option Nat) → Int32 → Int32 → Int32 → Int32 → Int32 → Option ((Nat → Int32) × (Nat → Nat → Int32))) (R : Nat → Option Nat) (G : Nat → Nat → Option Nat) (pl n : Nat) (ks : Nat → Nat) (u1 : Int32) (u2 : Int32) (u3 : Int32) (u4 : Int32) (u5 : Int32) : Nat → (Nat → Int32) → (Nat → Nat → Int32) → Int32 → Option ((Nat → Int32) × (Nat → Nat → Int32) × Int32)
  | 0, _, _, _ => none
  | k + 1, I, A, x6 =>
    if (I 204) ≤ x6 then (some (I, A, x6)) else (ob1 (x_has u2 x6) fun (v2 : Int32) =>
      ob2 (if v2 = 0 then ((some (I, A) : Option ((Nat → Int32) × (Nat → Nat → Int32)))) else (ob1 (ldO (A 209) 8 x6) fun (v6 : Int32) =>
          ob1 (stO (A 111) 8 u1 x6) fun (f7 : Nat → Int32) =>
          ob1 (ldO ((va_up A 111 f7) 209) 8 x6) fun (v8 : Int32) =>
          ob1 (ldO ((va_up A 111 f7) 208) 8 x6) fun (v9 : Int32) =>
          ob1 (if v9 < (u4 + (abI (v6 - u3))) then ((some 0 : Option (Int32))) else ((some 1 : Option (Int32)))) fun (v10 : Int32) =>
          ob2 (rec I (va_up A 111 f7) R G (u1 + 1) (u2 &&& (((1 : Int32) <<< (x6 &&& 31)) ^^^ (-1))) v8 (u4 + (abI (v6 - u3))) (u5 + v10)) fun (I12 : Nat → Int32) (A13 : Nat → Nat → Int32) =>
          (some (I12, A13) : Option ((Nat → Int32) × (Nat → Nat → Int32))))) fun (I3 : Nat → Int32) (A4 : Nat → Nat → Int32) =>
      x_keepFrom_L43 rec R G pl n ks u1 u2 u3 u4 u5 k I3 A4 (x6 + 1))
set_option maxRecDepth 100000 in
set_option maxHeartbeats 4000000 in
theorem x_keepFrom_L43_w {p : Program} {l : Launch} {e : Env} {R0 : Room} {s : State} {m : MethodId} {args : Array Value} {below : List Frame} {meth : Method} {c : Code} {cells slots : Nat} {Q : State → Prop} {D : dd_} {s0 : State} {ad : Nat → Nat} {X : va_W} {base : Nat} (hx : p.tables.exec = Jvm.exec) (hb : c.code = cX0_keepFrom) (hml : c.maxLocals = 8) (hown : s.vm.findClass RX0 = some m.cls) (hts : ∀ w ∈ lw_all, w.before args s = true) (hK : Kx D s) (hY : s0.WarmedH s.vm) (h0 : ∀ w ∈ lw_tbl, va_Nw w s0) (hRf : 2 ≤ R0.frames) (hRl : 64 ≤ R0.locals) (hcs : cells ≤ R0.cells ∧ slots ≤ R0.slots) (d : Nat) (hB0 : base ≤ s.heap.size) (hAP : AP xS ad X base) (rec : (Nat → Int32) → (Nat → Nat → Int32) → (Nat → Option Nat) → (Nat → Nat → Option Nat) → Int32 → Int32 → Int32 → Int32 → Int32 → Option ((Nat → Int32) × (Nat → Nat → Int32))) (R : Nat → Option Nat) (G : Nat → Nat → Option Nat) (pl n : Nat) (ks : Nat → Nat) (u1 : Int32) (u2 : Int32) (u3 : Int32) (u4 : Int32) (u5 : Int32) (hR : RegX D X pl n ks) (hrec : ∀ (I : Nat → Int32) (A : Nat → Nat → Int32) (R : Nat → Option Nat) (G : Nat → Nat → Option Nat) (a0 : Int32) (a1 : Int32) (a2 : Int32) (a3 : Int32) (a4 : Int32) (I1 : (Nat → Int32)) (A1 : (Nat → Nat → Int32)), rec I A R G a0 a1 a2 a3 a4 = some (I1, A1) → Met l yX0_keepFrom (ws_ yX0_keepFrom cX0_keepFrom 8 none) ({ frames := 2 + d, cells := 0, slots := 0, locals := 64 + 27 * d }) (PcX D s0 xS ad I A R G X base [.ref (ad 199), .int a0, .int a1, .int a2, .int a3, .int a4]) (QcX D xS ad I1 A1 R G X base (none)) 0 0 (upB base)) (hRd : 2 + (d + 1) ≤ R0.frames) (hLd : 64 + 27 * (d + 1) ≤ R0.locals) (I9 : (Nat → Int32)) (A9 : (Nat → Nat → Int32)) (y6 : Int32) (KX : ∀ (H : Heap) (locs : List Loc) (ls : Array Slot), WX D xS ad I9 A9 R G X H → va_S (upB base) s.heap H locs → lv_has ls 8 [] → W p l e R0 s m args below meth c H locs cells slots Q (F0 m 151 ls [])) : ∀ (k : Nat) (I : (Nat → Int32)) (A : (Nat → Nat → Int32)) (x6 : Int32) (H : Heap) (locs : List Loc) (ls : Array Slot), x_keepFrom_L43 rec R G pl n ks u1 u2 u3 u4 u5 k I A x6 = some (I9, A9, y6) → WX D xS ad I A R G X H → va_S (upB base) s.heap H locs → lv_has ls 8 [(0, .ref (ad 199)), (1, .int u1), (2, .int u2), (3, .int u3), (4, .int u4), (5, .int u5), (6, .int x6)] → W p l e R0 s m args below meth c H locs cells slots Q (F0 m 43 ls []) := by
  intro k
  induction k with
  | zero =>
    intro I A x6 H locs ls hf
    exact nomatch (show (none : Option ((Nat → Int32) × (Nat → Nat → Int32) × Int32)) = some (I9, A9, y6) from hf)
  | succ k ih =>
    intro I A x6 H locs ls hf hW hS hl
    have hf : (if (I 204) ≤ x6 then (some (I, A, x6)) else (ob1 (x_has u2 x6) fun (v2 : Int32) =>
          ob2 (if v2 = 0 then ((some (I, A) : Option ((Nat → Int32) × (Nat → Nat → Int32)))) else (ob1 (ldO (A 209) 8 x6) fun (v6 : Int32) =>
              ob1 (stO (A 111) 8 u1 x6) fun (f7 : Nat → Int32) =>
              ob1 (ldO ((va_up A 111 f7) 209) 8 x6) fun (v8 : Int32) =>
              ob1 (ldO ((va_up A 111 f7) 208) 8 x6) fun (v9 : Int32) =>
              ob1 (if v9 < (u4 + (abI (v6 - u3))) then ((some 0 : Option (Int32))) else ((some 1 : Option (Int32)))) fun (v10 : Int32) =>
              ob2 (rec I (va_up A 111 f7) R G (u1 + 1) (u2 &&& (((1 : Int32) <<< (x6 &&& 31)) ^^^ (-1))) v8 (u4 + (abI (v6 - u3))) (u5 + v10)) fun (I12 : Nat → Int32) (A13 : Nat → Nat → Int32) =>
              (some (I12, A13) : Option ((Nat → Int32) × (Nat → Nat → Int32))))) fun (I3 : Nat → Int32) (A4 : Nat → Nat → Int32) =>
          x_keepFrom_L43 rec R G pl n ks u1 u2 u3 u4 u5 k I3 A4 (x6 + 1))) = some (I9, A9, y6) := hf
    refine lv_iload hx hb dX0_keepFrom_43 (lv_at hl 6 rfl) ?_
    refine lv_aload_n hx hb dX0_keepFrom_45 rfl (lv_at hl 0 rfl) ?_
    refine x_get (v := .ref (ad 299)) hx hb hts hown hK hW xO199 in_X0 rfl 4 (by decide) q228 rfl rfl dX0_keepFrom_46 ?_
    refine x_get (v := .int (I 204)) hx hb hts hown hK hW xO299 in_X1 rfl 4 (by decide) q168 rfl rfl dX0_keepFrom_49 ?_
    refine lv_icmp_ge (tgt := 151) hx hb dX0_keepFrom_52 (by decide) (fun c1 => ?_) (fun c1 => ?_)
    · rw [if_pos c1] at hf
      obtain ⟨rfl, rfl, rfl⟩ := so3 hf
      exact KX _ _ ls hW hS (lv_sub hl [] rfl)
    · rw [if_neg c1] at hf
      refine lv_iload_n hx hb dX0_keepFrom_55 rfl (lv_at hl 2 rfl) ?_
      refine lv_iload hx hb dX0_keepFrom_56 (lv_at hl 6 rfl) ?_
      obtain ⟨v2, h2, hf⟩ := ob1_e hf
      refine x_sR (ov := some (.int v2)) (D := D) (s0 := s0) (Sc := nS) (adc := ad) (Ic := (fun _ => 0)) (Ac := (fun _ _ => 0)) (Rc := nR) (Gc := nG) (Xc := []) (base := base) (As := [.int u2, .int x6]) (rest := []) ⟨hx, hb, hml, hown, hts⟩ (x_has_met l D s0 h0 ad [] base u2 x6 v2 h2) (va_cwS 2 hts (lw_S q853 q784 q76 q785) rfl rfl rfl x_has_ds.2 ⟨Nat.le_trans (Nat.le_of_ble_eq_true rfl) hRf, Nat.le_trans (Nat.le_of_ble_eq_true rfl) hRl⟩) hK hY (Nat.le_trans hB0 hS.1) WX_nil hcs rfl hl.1 rfl (Nat.le_of_ble_eq_true rfl) dX0_keepFrom_58 ?_
      obtain ⟨I3, A4, hm4, hf⟩ := ob2_e hf
      refine w_cutH (A0 := upB base) (H0 := s.heap) (X := WX D xS ad I3 A4 R G X) (nL := 8) (L := [(0, .ref (ad 199)), (1, .int u1), (2, .int u2), (3, .int u3), (4, .int u4), (5, .int u5), (6, .int x6)]) (pcj := 145) (st := []) (fun H locs ls hW hS hl => ?_) (fun K4 => ?_)
      · refine lv_iinc (v := x6 + 1) (lv' := [(6, .int (x6 + 1)), (0, .ref (ad 199)), (1, .int u1), (2, .int u2), (3, .int u3), (4, .int u4), (5, .int u5)]) hx hb dX0_keepFrom_145 hl (k := 6) rfl (by rfl) (by decide) rfl (fun ls hl => ?_)
        refine lv_goto (tgt := 43) hx hb dX0_keepFrom_148 (by decide) ?_
        exact ih I3 A4 (x6 + 1) _ _ ls hf hW hS (lv_sub hl [1, 2, 3, 4, 5, 6, 0] rfl)
      · refine lv_if_ne (tgt := 67) hx hb dX0_keepFrom_61 (by decide) (fun c5 => ?_) (fun c5 => ?_)
        · rw [if_neg c5] at hm4
          refine lv_iload hx hb dX0_keepFrom_67 (lv_at hl 4 rfl) ?_
          refine lv_aload_n hx hb dX0_keepFrom_69 rfl (lv_at hl 0 rfl) ?_
          refine x_get (v := .ref (ad 299)) hx hb hts hown hK hW xO199 in_X0 rfl 4 (by decide) q228 rfl rfl dX0_keepFrom_70 ?_
          refine x_get (v := .ref (ad 209)) hx hb hts hown hK hW xO299 in_X1 rfl 9 (by decide) q178 rfl rfl dX0_keepFrom_73 ?_
          refine lv_iload hx hb dX0_keepFrom_76 (lv_at hl 6 rfl) ?_
          obtain ⟨v6, hv6, hm4⟩ := ob1_e hm4
          refine x_iald hx hb hK hW xA209 hv6 dX0_keepFrom_78 ?_
          refine lv_iload_n hx hb dX0_keepFrom_79 rfl (lv_at hl 3 rfl) ?_
          refine lv_isub hx hb dX0_keepFrom_80 ?_
          refine x_abs hx hb hml hl.1 hts hown q938 (Nat.le_trans (Nat.le_of_ble_eq_true rfl) hRf) (Nat.le_trans (Nat.le_of_ble_eq_true rfl) hRl) hcs dX0_keepFrom_81 ?_
          refine lv_iadd hx hb dX0_keepFrom_84 ?_
          refine lv_istore (lv' := [(7, .int (u4 + (abI (v6 - u3)))), (0, .ref (ad 199)), (1, .int u1), (2, .int u2), (3, .int u3), (4, .int u4), (5, .int u5), (6, .int x6)]) hx hb dX0_keepFrom_85 hl (by decide) rfl (fun ls hl => ?_)
          refine lv_aload_n hx hb dX0_keepFrom_87 rfl (lv_at hl 1 rfl) ?_
          refine x_get (v := .ref (ad 111)) hx hb hts hown hK hW xO199 in_X0 rfl 11 (by decide) q235 rfl rfl dX0_keepFrom_88 ?_
          refine lv_iload_n hx hb dX0_keepFrom_91 rfl (lv_at hl 2 rfl) ?_
          refine lv_iload hx hb dX0_keepFrom_92 (lv_at hl 7 rfl) ?_
          obtain ⟨f7, hf7, hm4⟩ := ob1_e hm4
          refine x_iast hx hb hK xwf hAP hW hS xA111 hf7 dX0_keepFrom_94 (fun H locs hW hS => ?_)
          refine lv_aload_n hx hb dX0_keepFrom_95 rfl (lv_at hl 1 rfl) ?_
          refine lv_iload_n hx hb dX0_keepFrom_96 rfl (lv_at hl 2 rfl) ?_
          refine lv_iconst (v := 1) hx hb dX0_keepFrom_97 (by decide) ?_
          refine lv_iadd hx hb dX0_keepFrom_98 ?_
          refine lv_iload_n hx hb dX0_keepFrom_99 rfl (lv_at hl 3 rfl) ?_
          refine lv_iconst (v := 1) hx hb dX0_keepFrom_100 (by decide) ?_
          refine lv_iload hx hb dX0_keepFrom_101 (lv_at hl 7 rfl) ?_
          refine lv_ishl hx hb dX0_keepFrom_103 ?_
          refine lv_iconst (v := (-1)) hx hb dX0_keepFrom_104 (by decide) ?_
          refine lv_ixor hx hb dX0_keepFrom_105 ?_
          refine lv_iand hx hb dX0_keepFrom_106 ?_
          refine lv_aload_n hx hb dX0_keepFrom_107 rfl (lv_at hl 1 rfl) ?_
          refine x_get (v := .ref (ad 299)) hx hb hts hown hK hW xO199 in_X0 rfl 4 (by decide) q228 rfl rfl dX0_keepFrom_108 ?_
          refine x_get (v := .ref (ad 209)) hx hb hts hown hK hW xO299 in_X1 rfl 9 (by decide) q178 rfl rfl dX0_keepFrom_111 ?_
          refine lv_iload hx hb dX0_keepFrom_114 (lv_at hl 7 rfl) ?_
          obtain ⟨v8, hv8, hm4⟩ := ob1_e hm4
          refine x_iald hx hb hK hW xA209 hv8 dX0_keepFrom_116 ?_
          refine lv_iload hx hb dX0_keepFrom_117 (lv_at hl 0 rfl) ?_
          refine lv_iload hx hb dX0_keepFrom_119 (lv_at hl 6 rfl) ?_
          refine lv_iload hx hb dX0_keepFrom_121 (lv_at hl 0 rfl) ?_
          refine lv_aload_n hx hb dX0_keepFrom_123 rfl (lv_at hl 1 rfl) ?_
          refine x_get (v := .ref (ad 299)) hx hb hts hown hK hW xO199 in_X0 rfl 4 (by decide) q228 rfl rfl dX0_keepFrom_124 ?_
          refine x_get (v := .ref (ad 208)) hx hb hts hown hK hW xO299 in_X1 rfl 8 (by decide) q176 rfl rfl dX0_keepFrom_127 ?_
          refine lv_iload hx hb dX0_keepFrom_130 (lv_at hl 7 rfl) ?_
          obtain ⟨v9, hv9, hm4⟩ := ob1_e hm4
          refine x_iald hx hb hK hW xA208 hv9 dX0_keepFrom_132 ?_
          obtain ⟨v10, hm10, hm4⟩ := ob1_e hm4
          refine w_cutL (nL := 8) (L := [(0, .ref (ad 199)), (1, .int u1), (2, .int u2), (3, .int u3), (4, .int u4), (5, .int u5), (6, .int x6)]) (pcj := 141) (st := [.int v10, .int u5, .int (u4 + (abI (v6 - u3))), .int v8, .int (u2 &&& (((1 : Int32) <<< (x6 &&& 31)) ^^^ (-1))), .int (u1 + 1), .ref (ad 199)]) (fun ls hl => ?_) (fun K10 => ?_)
          · refine lv_iadd hx hb dX0_keepFrom_141 ?_
            obtain ⟨I12, A13, h13, hm4⟩ := ob2_e hm4
            refine x_vW (ov := none) (D := D) (s0 := s0) (Sc := xS) (adc := ad) (Ic := I) (Ac := (va_up A 111 f7)) (Rc := R) (Gc := G) (Xc := X) (base := base) (As := [.int (u1 + 1), .int (u2 &&& (((1 : Int32) <<< (x6 &&& 31)) ^^^ (-1))), .int v8, .int (u4 + (abI (v6 - u3))), .int (u5 + v10)]) (rest := []) (Ic1 := I12) (Ac1 := A13) (Rc1 := R) (Gc1 := G) (Xc1 := X) (b := ad 199) (C := RX0) ⟨hx, hb, hml, hown, hts⟩ (hrec I (va_up A 111 f7) R G (u1 + 1) (u2 &&& (((1 : Int32) <<< (x6 &&& 31)) ^^^ (-1))) v8 (u4 + (abI (v6 - u3))) (u5 + v10) I12 A13 h13) (g_cwV 5 hts (lw_V q928 q930 qs24 q76 q931) rfl rfl x_keepFrom_ds ⟨by dsimp only; omega, by dsimp only; omega⟩) (x_recv hK hW xO199 rfl) hK hY (Nat.le_trans hB0 hS.1) hW hS hcs rfl hl.1 rfl (Nat.le_of_ble_eq_true rfl) dX0_keepFrom_142 (fun H locs hW hS => ?_)
            obtain ⟨rfl, rfl⟩ := so2 hm4
            exact K4 _ _ ls hW hS (lv_sub hl [0, 1, 2, 3, 4, 5, 6] rfl)
          · refine lv_icmp_gt (tgt := 140) hx hb dX0_keepFrom_133 (by decide) (fun c11 => ?_) (fun c11 => ?_)
            · rw [if_pos c11] at hm10
              refine lv_iconst (v := 0) hx hb dX0_keepFrom_140 (by decide) ?_
              obtain rfl := so1 hm10
              exact K10 ls (lv_sub hl [1, 2, 3, 4, 5, 6, 7] rfl)
            · rw [if_neg c11] at hm10
              refine lv_iconst (v := 1) hx hb dX0_keepFrom_136 (by decide) ?_
              refine lv_goto (tgt := 141) hx hb dX0_keepFrom_137 (by decide) ?_
              obtain rfl := so1 hm10
              exact K10 ls (lv_sub hl [1, 2, 3, 4, 5, 6, 7] rfl)
        · rw [if_pos c5] at hm4
          refine lv_goto (tgt := 145) hx hb dX0_keepFrom_64 (by decide) ?_
          obtain ⟨rfl, rfl⟩ := so2 hm4
          exact K4 _ _ ls hW hS (lv_sub hl [0, 1, 2, 3, 4, 5, 6] rfl)
def x_keepFrom (pl n : Nat) (ks : Nat → Nat) : Nat → (Nat → Int32) → (Nat → Nat → Int32) → (Nat → Option Nat) → (Nat → Nat → Option Nat) → Int32 → Int32 → Int32 → Int32 → Int32 → Option ((Nat → Int32) × (Nat → Nat → Int32))
  | 0, _, _, _, _, _, _, _, _, _ => none
  | d + 1, I, A, R, G, a0, a1, a2, a3, a4 =>
    ob1 (ji_bitCount a1) fun (v1 : Int32) =>
    if (I 113) < (a4 + v1) then (if a1 = 0 then (ob1 (cpO (A 111) (A 112) 8 8 0 0 a0) fun (f7 : Nat → Int32) =>
        some (upd I 113 a4, va_up A 112 f7)) else (ob3 (x_keepFrom_L43 (x_keepFrom pl n ks d) R G pl n ks a0 a1 a2 a3 a4 NF I A 0) fun (I4 : Nat → Int32) (A5 : Nat → Nat → Int32) (v6 : Int32) =>
        some (I4, A5))) else (some (I, A))
set_option maxRecDepth 100000 in
set_option maxHeartbeats 4000000 in
theorem x_keepFrom_met (l : Launch) (D : dd_) (s0 : State) (h0 : ∀ w ∈ lw_tbl, va_Nw w s0) (ad : Nat → Nat) (X : va_W) (base : Nat) (hAP : AP xS ad X base) (pl n : Nat) (ks : Nat → Nat) (hR : RegX D X pl n ks) : ∀ (d : Nat) (I : Nat → Int32) (A : Nat → Nat → Int32) (R : Nat → Option Nat) (G : Nat → Nat → Option Nat) (a0 : Int32) (a1 : Int32) (a2 : Int32) (a3 : Int32) (a4 : Int32) (I1 : (Nat → Int32)) (A1 : (Nat → Nat → Int32)), x_keepFrom pl n ks d I A R G a0 a1 a2 a3 a4 = some (I1, A1) → Met l yX0_keepFrom (ws_ yX0_keepFrom cX0_keepFrom 8 none) ({ frames := 2 + d, cells := 0, slots := 0, locals := 64 + 27 * d }) (PcX D s0 xS ad I A R G X base [.ref (ad 199), .int a0, .int a1, .int a2, .int a3, .int a4]) (QcX D xS ad I1 A1 R G X base (none)) 0 0 (upB base) := by
  intro d
  induction d with
  | zero =>
    intro I A R G a0 a1 a2 a3 a4 I1 A1 hf
    exact nomatch (show (none : Option ((Nat → Int32) × (Nat → Nat → Int32))) = some (I1, A1) from hf)
  | succ d ih =>
    intro I A R G a0 a1 a2 a3 a4 I1 A1 hf
    refine Met.ofW (cc := cX0_keepFrom) (maxL := 8) (ret := none) (by decide) rfl ?_
    intro p e s m args below meth c s₁ B hml hv
    obtain ⟨rfl, hK, hY, hB0, hW⟩ := hv
    have hx := B.exec
    have hb := B.bytes
    have hr := B.returns
    have hts := atoms_spec (ws := (ws_ yX0_keepFrom cX0_keepFrom 8 none)) B.pre
    have hts : ∀ w ∈ lw_all, w.before _ s = true := fun w h => hts w (List.mem_cons_of_mem _ h)
    have hown : s.vm.findClass RX0 = some m.cls := findClass_of_methodNamed B.named
    have hlocks := B.notSynchronized
    have hRd : 2 + (d + 1) ≤ (headSpec (ws_ yX0_keepFrom cX0_keepFrom 8 none) ({ frames := 2 + (d + 1), cells := 0, slots := 0, locals := 64 + 27 * (d + 1) })).room.frames := Nat.le_refl _
    have hLd : 64 + 27 * (d + 1) ≤ (headSpec (ws_ yX0_keepFrom cX0_keepFrom 8 none) ({ frames := 2 + (d + 1), cells := 0, slots := 0, locals := 64 + 27 * (d + 1) })).room.locals := Nat.le_refl _
    have hRf : 2 ≤ (headSpec (ws_ yX0_keepFrom cX0_keepFrom 8 none) ({ frames := 2 + (d + 1), cells := 0, slots := 0, locals := 64 + 27 * (d + 1) })).room.frames := Nat.le_trans (Nat.le_add_right _ _) hRd
    have hRl : 64 ≤ (headSpec (ws_ yX0_keepFrom cX0_keepFrom 8 none) ({ frames := 2 + (d + 1), cells := 0, slots := 0, locals := 64 + 27 * (d + 1) })).room.locals := Nat.le_trans (Nat.le_add_right _ _) hLd
    have hcs : 0 ≤ (headSpec (ws_ yX0_keepFrom cX0_keepFrom 8 none) ({ frames := 2 + (d + 1), cells := 0, slots := 0, locals := 64 + 27 * (d + 1) })).room.cells ∧ 0 ≤ (headSpec (ws_ yX0_keepFrom cX0_keepFrom 8 none) ({ frames := 2 + (d + 1), cells := 0, slots := 0, locals := 64 + 27 * (d + 1) })).room.slots := ⟨Nat.zero_le _, Nat.zero_le _⟩
    have hS : va_S (upB base) s.heap s.heap [] := va_S.rf
    have hl := lv_entry ([.ref (ad 199), .int a0, .int a1, .int a2, .int a3, .int a4]) (n := 8) (Nat.le_of_ble_eq_true rfl)
    rw [lg_entry_eq]
    generalize (lg_sl ([.ref (ad 199), .int a0, .int a1, .int a2, .int a3, .int a4]) ++ List.replicate (8 - (lg_sl ([.ref (ad 199), .int a0, .int a1, .int a2, .int a3, .int a4])).length) Slot.unset).toArray = ls at hl ⊢
    have hl : lv_has ls 8 [(0, .ref (ad 199)), (1, .int a0), (2, .int a1), (3, .int a2), (4, .int a3), (5, .int a4)] := hl
    have hf : (ob1 (ji_bitCount a1) fun (v1 : Int32) =>
      if (I 113) < (a4 + v1) then (if a1 = 0 then (ob1 (cpO (A 111) (A 112) 8 8 0 0 a0) fun (f7 : Nat → Int32) =>
          some (upd I 113 a4, va_up A 112 f7)) else (ob3 (x_keepFrom_L43 (x_keepFrom pl n ks d) R G pl n ks a0 a1 a2 a3 a4 NF I A 0) fun (I4 : Nat → Int32) (A5 : Nat → Nat → Int32) (v6 : Int32) =>
          some (I4, A5))) else (some (I, A))) = some (I1, A1) := hf
    refine lv_iload hx hb dX0_keepFrom_0 (lv_at hl 5 rfl) ?_
    refine lv_iload_n hx hb dX0_keepFrom_2 rfl (lv_at hl 2 rfl) ?_
    obtain ⟨v1, h1, hf⟩ := ob1_e hf
    refine x_sR (ov := some (.int v1)) (D := D) (s0 := s0) (Sc := nS) (adc := ad) (Ic := (fun _ => 0)) (Ac := (fun _ _ => 0)) (Rc := nR) (Gc := nG) (Xc := []) (base := base) (As := [.int a1]) (rest := [.int a4]) ⟨hx, hb, hml, hown, hts⟩ (ji_bitCount_met l D s0 h0 ad [] base a1 v1 h1) (va_cwS 1 hts (lw_S q932 q933 q107 q934) rfl rfl rfl ji_bitCount_ds.2 ⟨Nat.le_trans (Nat.le_of_ble_eq_true rfl) hRf, Nat.le_trans (Nat.le_of_ble_eq_true rfl) hRl⟩) hK hY (Nat.le_trans hB0 hS.1) WX_nil hcs rfl hl.1 rfl (Nat.le_of_ble_eq_true rfl) dX0_keepFrom_3 ?_
    refine lv_iadd hx hb dX0_keepFrom_6 ?_
    refine lv_aload_n hx hb dX0_keepFrom_7 rfl (lv_at hl 0 rfl) ?_
    refine x_get (v := .int (I 113)) hx hb hts hown hK hW xO199 in_X0 rfl 13 (by decide) q237 rfl rfl dX0_keepFrom_8 ?_
    refine lv_icmp_gt (tgt := 15) hx hb dX0_keepFrom_11 (by decide) (fun c2 => ?_) (fun c2 => ?_)
    · rw [if_pos c2] at hf
      refine lv_iload_n hx hb dX0_keepFrom_15 rfl (lv_at hl 2 rfl) ?_
      refine lv_if_ne (tgt := 40) hx hb dX0_keepFrom_16 (by decide) (fun c3 => ?_) (fun c3 => ?_)
      · rw [if_neg c3] at hf
        refine lv_iconst (v := 0) hx hb dX0_keepFrom_40 (by decide) ?_
        refine lv_istore (lv' := [(6, .int 0), (0, .ref (ad 199)), (1, .int a0), (2, .int a1), (3, .int a2), (4, .int a3), (5, .int a4)]) hx hb dX0_keepFrom_41 hl (by decide) rfl (fun ls hl => ?_)
        obtain ⟨I4, A5, v6, hq6, hf⟩ := ob3_e hf
        refine x_keepFrom_L43_w hx hb hml hown hts hK hY h0 hRf hRl hcs d hB0 hAP (x_keepFrom pl n ks d) R G pl n ks a0 a1 a2 a3 a4 hR ih hRd hLd I4 A5 v6 (fun H locs ls hW hS hl => ?_) NF I A 0 _ _ ls hq6 hW hS (lv_sub hl [1, 2, 3, 4, 5, 6, 0] rfl)
        obtain ⟨rfl, rfl⟩ := so2 hf
        exact W.vret hx hb hr (fun t ht _ => ⟨rfl, by rw [ht]; exact hW, hS.F ht⟩) hS.2.2 dX0_keepFrom_151
      · rw [if_pos c3] at hf
        refine lv_aload_n hx hb dX0_keepFrom_19 rfl (lv_at hl 0 rfl) ?_
        refine lv_iload hx hb dX0_keepFrom_20 (lv_at hl 5 rfl) ?_
        refine x_putI hx hb hts hown hK xwf hAP hW hS xO199 in_X0 tyX0 tyX0_ok nmX0 rfl 13 113 (by decide) rfl q237 rfl rfl (by decide +kernel) dX0_keepFrom_22 (fun H locs hW hS => ?_)
        refine lv_aload_n hx hb dX0_keepFrom_25 rfl (lv_at hl 0 rfl) ?_
        refine x_get (v := .ref (ad 111)) hx hb hts hown hK hW xO199 in_X0 rfl 11 (by decide) q235 rfl rfl dX0_keepFrom_26 ?_
        refine lv_iconst (v := 0) hx hb dX0_keepFrom_29 (by decide) ?_
        refine lv_aload_n hx hb dX0_keepFrom_30 rfl (lv_at hl 0 rfl) ?_
        refine x_get (v := .ref (ad 112)) hx hb hts hown hK hW xO199 in_X0 rfl 12 (by decide) q236 rfl rfl dX0_keepFrom_31 ?_
        refine lv_iconst (v := 0) hx hb dX0_keepFrom_34 (by decide) ?_
        refine lv_iload_n hx hb dX0_keepFrom_35 rfl (lv_at hl 1 rfl) ?_
        obtain ⟨f7, hf7, hf⟩ := ob1_e hf
        refine x_copyi hx hb hml hl.1 hts hown q431 hK xwf hAP hW hS xA111 xA112 hf7 (Nat.le_trans (Nat.le_of_ble_eq_true rfl) hRf) (Nat.le_trans (Nat.le_of_ble_eq_true rfl) hRl) dX0_keepFrom_36 (fun H locs hW hS => ?_)
        obtain ⟨rfl, rfl⟩ := so2 hf
        exact W.vret hx hb hr (fun t ht _ => ⟨rfl, by rw [ht]; exact hW, hS.F ht⟩) hS.2.2 dX0_keepFrom_39
    · rw [if_neg c2] at hf
      obtain ⟨rfl, rfl⟩ := so2 hf
      exact W.vret hx hb hr (fun t ht _ => ⟨rfl, by rw [ht]; exact hW, hS.F ht⟩) hS.2.2 dX0_keepFrom_14
def x_keeps (I : Nat → Int32) (A : Nat → Nat → Int32) (R : Nat → Option Nat) (G : Nat → Nat → Option Nat) (pl n : Nat) (ks : Nat → Nat) (a0 : Int32) (a1 : Int32) : Option (Int32 × (Nat → Int32) × (Nat → Nat → Int32)) :=
  ob1 (x_isPerson I A R G pl n ks a0) fun (v1 : Int32) =>
  if v1 = 0 then (some ((-1000001), I, A)) else (ob1 (x_isIn a1.toInt64 (-1) 7) fun (v3 : Int32) =>
    if v3 = 0 then (some ((-1000001), I, A)) else (ob1 (x_openOf I A R G pl n ks a0) fun (v5 : Int32) =>
      ob1 (ldO (A 203) 5 a0) fun (v6 : Int32) =>
      ob2 (x_keepFrom pl n ks 12 (upd I 113 (-1)) A R G 0 v5 v6 ((upd I 113 (-1)) 211) 0) fun (I7 : Nat → Int32) (A8 : Nat → Nat → Int32) =>
      ob1 (if a1 = (-1) then ((some (I7 113) : Option (Int32))) else (ob1 (ji_bitCount v5) fun (v11 : Int32) =>
          if v11 ≤ a1 then ((some (-1000000) : Option (Int32))) else (ob1 (ldO (A8 112) 8 a1) fun (v13 : Int32) =>
            (some v13 : Option (Int32))))) fun (v9 : Int32) =>
      some (v9, I7, A8)))
set_option maxRecDepth 100000 in
set_option maxHeartbeats 4000000 in
theorem x_keeps_met (l : Launch) (D : dd_) (s0 : State) (h0 : ∀ w ∈ lw_tbl, va_Nw w s0) (ad : Nat → Nat) (X : va_W) (base : Nat) (hAP : AP xS ad X base) (I : Nat → Int32) (A : Nat → Nat → Int32) (R : Nat → Option Nat) (G : Nat → Nat → Option Nat) (pl n : Nat) (ks : Nat → Nat) (hR : RegX D X pl n ks) (a0 : Int32) (a1 : Int32) (r : Int32) (I1 : (Nat → Int32)) (A1 : (Nat → Nat → Int32)) (hf : x_keeps I A R G pl n ks a0 a1 = some (r, I1, A1)) : Met l yX0_keeps (ws_ yX0_keeps cX0_keeps 4 (some .int)) ({ frames := 15, cells := 0, slots := 0, locals := 415 }) (PcX D s0 xS ad I A R G X base [.ref (ad 199), .int a0, .int a1]) (QcX D xS ad I1 A1 R G X base (some (.int r))) 0 0 (upB base) := by
  refine Met.ofW (cc := cX0_keeps) (maxL := 4) (ret := (some .int)) (by decide) rfl ?_
  intro p e s m args below meth c s₁ B hml hv
  obtain ⟨rfl, hK, hY, hB0, hW⟩ := hv
  have hx := B.exec
  have hb := B.bytes
  have hr := B.returns
  have hts := atoms_spec (ws := (ws_ yX0_keeps cX0_keeps 4 (some .int))) B.pre
  have hts : ∀ w ∈ lw_all, w.before _ s = true := fun w h => hts w (List.mem_cons_of_mem _ h)
  have hown : s.vm.findClass RX0 = some m.cls := findClass_of_methodNamed B.named
  have hlocks := B.notSynchronized
  have hRf : 15 ≤ (headSpec (ws_ yX0_keeps cX0_keeps 4 (some .int)) ({ frames := 15, cells := 0, slots := 0, locals := 415 })).room.frames := Nat.le_refl _
  have hRl : 415 ≤ (headSpec (ws_ yX0_keeps cX0_keeps 4 (some .int)) ({ frames := 15, cells := 0, slots := 0, locals := 415 })).room.locals := Nat.le_refl _
  have hcs : 0 ≤ (headSpec (ws_ yX0_keeps cX0_keeps 4 (some .int)) ({ frames := 15, cells := 0, slots := 0, locals := 415 })).room.cells ∧ 0 ≤ (headSpec (ws_ yX0_keeps cX0_keeps 4 (some .int)) ({ frames := 15, cells := 0, slots := 0, locals := 415 })).room.slots := ⟨Nat.zero_le _, Nat.zero_le _⟩
  have hS : va_S (upB base) s.heap s.heap [] := va_S.rf
  have hl := lv_entry ([.ref (ad 199), .int a0, .int a1]) (n := 4) (Nat.le_of_ble_eq_true rfl)
  rw [lg_entry_eq]
  generalize (lg_sl ([.ref (ad 199), .int a0, .int a1]) ++ List.replicate (4 - (lg_sl ([.ref (ad 199), .int a0, .int a1])).length) Slot.unset).toArray = ls at hl ⊢
  have hl : lv_has ls 4 [(0, .ref (ad 199)), (1, .int a0), (2, .int a1)] := hl
  have hf : (ob1 (x_isPerson I A R G pl n ks a0) fun (v1 : Int32) =>
    if v1 = 0 then (some ((-1000001), I, A)) else (ob1 (x_isIn a1.toInt64 (-1) 7) fun (v3 : Int32) =>
      if v3 = 0 then (some ((-1000001), I, A)) else (ob1 (x_openOf I A R G pl n ks a0) fun (v5 : Int32) =>
        ob1 (ldO (A 203) 5 a0) fun (v6 : Int32) =>
        ob2 (x_keepFrom pl n ks 12 (upd I 113 (-1)) A R G 0 v5 v6 ((upd I 113 (-1)) 211) 0) fun (I7 : Nat → Int32) (A8 : Nat → Nat → Int32) =>
        ob1 (if a1 = (-1) then ((some (I7 113) : Option (Int32))) else (ob1 (ji_bitCount v5) fun (v11 : Int32) =>
            if v11 ≤ a1 then ((some (-1000000) : Option (Int32))) else (ob1 (ldO (A8 112) 8 a1) fun (v13 : Int32) =>
              (some v13 : Option (Int32))))) fun (v9 : Int32) =>
        some (v9, I7, A8)))) = some (r, I1, A1) := hf
  refine lv_aload_n hx hb dX0_keeps_0 rfl (lv_at hl 0 rfl) ?_
  refine lv_iload_n hx hb dX0_keeps_1 rfl (lv_at hl 1 rfl) ?_
  obtain ⟨v1, h1, hf⟩ := ob1_e hf
  refine x_vR (ov := some (.int v1)) (D := D) (s0 := s0) (Sc := xS) (adc := ad) (Ic := I) (Ac := A) (Rc := R) (Gc := G) (Xc := X) (base := base) (As := [.int a0]) (rest := []) (b := ad 199) (C := RX0) ⟨hx, hb, hml, hown, hts⟩ (x_isPerson_met l D s0 h0 ad X base I A R G pl n ks hR a0 v1 h1) (g_cwV 1 hts (lw_V q761 q763 qs18 q76 q764) rfl rfl x_isPerson_ds ⟨Nat.le_trans (Nat.le_of_ble_eq_true rfl) hRf, Nat.le_trans (Nat.le_of_ble_eq_true rfl) hRl⟩) (x_recv hK hW xO199 rfl) hK hY (Nat.le_trans hB0 hS.1) hW hcs rfl hl.1 rfl (Nat.le_of_ble_eq_true rfl) dX0_keeps_2 ?_
  refine lv_if_eq (tgt := 22) hx hb dX0_keeps_5 (by decide) (fun c2 => ?_) (fun c2 => ?_)
  · rw [if_pos c2] at hf
    refine lv_ldc (v := (-1000001)) hx hb hown (hts _ q289) dX0_keeps_22 ?_
    obtain ⟨rfl, rfl, rfl⟩ := so3 hf
    exact W.iret hx hb hr (fun t ht _ => ⟨rfl, by rw [ht]; exact hW, hS.F ht⟩) hS.2.2 dX0_keeps_24
  · rw [if_neg c2] at hf
    refine lv_iload_n hx hb dX0_keeps_8 rfl (lv_at hl 2 rfl) ?_
    refine lv_i2l (v := a1.toInt64) hx hb dX0_keeps_9 rfl ?_
    refine lv_ldc2 (v := (-1)) hx hb hown (hts _ q923) dX0_keeps_10 ?_
    refine lv_ldc2 (v := 7) hx hb hown (hts _ q284) dX0_keeps_13 ?_
    obtain ⟨v3, h3, hf⟩ := ob1_e hf
    refine x_sR (ov := some (.int v3)) (D := D) (s0 := s0) (Sc := nS) (adc := ad) (Ic := (fun _ => 0)) (Ac := (fun _ _ => 0)) (Rc := nR) (Gc := nG) (Xc := []) (base := base) (As := [.long a1.toInt64, .long (-1), .long 7]) (rest := []) ⟨hx, hb, hml, hown, hts⟩ (x_isIn_met l D s0 h0 ad [] base a1.toInt64 (-1) 7 v3 h3) (va_cwS 3 hts (lw_S q285 q286 q76 q287) rfl rfl rfl x_isIn_ds.2 ⟨Nat.le_trans (Nat.le_of_ble_eq_true rfl) hRf, Nat.le_trans (Nat.le_of_ble_eq_true rfl) hRl⟩) hK hY (Nat.le_trans hB0 hS.1) WX_nil hcs rfl hl.1 rfl (Nat.le_of_ble_eq_true rfl) dX0_keeps_16 ?_
    refine lv_if_ne (tgt := 25) hx hb dX0_keeps_19 (by decide) (fun c4 => ?_) (fun c4 => ?_)
    · rw [if_neg c4] at hf
      refine lv_aload_n hx hb dX0_keeps_25 rfl (lv_at hl 0 rfl) ?_
      refine lv_iload_n hx hb dX0_keeps_26 rfl (lv_at hl 1 rfl) ?_
      obtain ⟨v5, h5, hf⟩ := ob1_e hf
      refine x_vR (ov := some (.int v5)) (D := D) (s0 := s0) (Sc := xS) (adc := ad) (Ic := I) (Ac := A) (Rc := R) (Gc := G) (Xc := X) (base := base) (As := [.int a0]) (rest := []) (b := ad 199) (C := RX0) ⟨hx, hb, hml, hown, hts⟩ (x_openOf_met l D s0 h0 ad X base I A R G pl n ks hR a0 v5 h5) (g_cwV 1 hts (lw_V q924 q926 qs23 q76 q927) rfl rfl x_openOf_ds ⟨Nat.le_trans (Nat.le_of_ble_eq_true rfl) hRf, Nat.le_trans (Nat.le_of_ble_eq_true rfl) hRl⟩) (x_recv hK hW xO199 rfl) hK hY (Nat.le_trans hB0 hS.1) hW hcs rfl hl.1 rfl (Nat.le_of_ble_eq_true rfl) dX0_keeps_27 ?_
      refine lv_istore_n (lv' := [(3, .int v5), (0, .ref (ad 199)), (1, .int a0), (2, .int a1)]) hx hb dX0_keeps_30 rfl hl (by decide) rfl (fun ls hl => ?_)
      refine lv_aload_n hx hb dX0_keeps_31 rfl (lv_at hl 1 rfl) ?_
      refine lv_iconst (v := (-1)) hx hb dX0_keeps_32 (by decide) ?_
      refine x_putI hx hb hts hown hK xwf hAP hW hS xO199 in_X0 tyX0 tyX0_ok nmX0 rfl 13 113 (by decide) rfl q237 rfl rfl (by decide +kernel) dX0_keeps_33 (fun H locs hW hS => ?_)
      refine lv_aload_n hx hb dX0_keeps_36 rfl (lv_at hl 1 rfl) ?_
      refine lv_iconst (v := 0) hx hb dX0_keeps_37 (by decide) ?_
      refine lv_iload_n hx hb dX0_keeps_38 rfl (lv_at hl 0 rfl) ?_
      refine lv_aload_n hx hb dX0_keeps_39 rfl (lv_at hl 1 rfl) ?_
      refine x_get (v := .ref (ad 299)) hx hb hts hown hK hW xO199 in_X0 rfl 4 (by decide) q228 rfl rfl dX0_keeps_40 ?_
      refine x_get (v := .ref (ad 203)) hx hb hts hown hK hW xO299 in_X1 rfl 3 (by decide) q165 rfl rfl dX0_keeps_43 ?_
      refine lv_iload_n hx hb dX0_keeps_46 rfl (lv_at hl 2 rfl) ?_
      obtain ⟨v6, hv6, hf⟩ := ob1_e hf
      refine x_iald hx hb hK hW xA203 hv6 dX0_keeps_47 ?_
      refine lv_aload_n hx hb dX0_keeps_48 rfl (lv_at hl 1 rfl) ?_
      refine x_get (v := .ref (ad 299)) hx hb hts hown hK hW xO199 in_X0 rfl 4 (by decide) q228 rfl rfl dX0_keeps_49 ?_
      refine x_get (v := .int ((upd I 113 (-1)) 211)) hx hb hts hown hK hW xO299 in_X1 rfl 11 (by decide) q182 rfl rfl dX0_keeps_52 ?_
      refine lv_iconst (v := 0) hx hb dX0_keeps_55 (by decide) ?_
      obtain ⟨I7, A8, h8, hf⟩ := ob2_e hf
      refine x_vW (ov := none) (D := D) (s0 := s0) (Sc := xS) (adc := ad) (Ic := (upd I 113 (-1))) (Ac := A) (Rc := R) (Gc := G) (Xc := X) (base := base) (As := [.int 0, .int v5, .int v6, .int ((upd I 113 (-1)) 211), .int 0]) (rest := []) (Ic1 := I7) (Ac1 := A8) (Rc1 := R) (Gc1 := G) (Xc1 := X) (b := ad 199) (C := RX0) ⟨hx, hb, hml, hown, hts⟩ (x_keepFrom_met l D s0 h0 ad X base hAP pl n ks hR 12 (upd I 113 (-1)) A R G 0 v5 v6 ((upd I 113 (-1)) 211) 0 I7 A8 h8) (g_cwV 5 hts (lw_V q928 q930 qs24 q76 q931) rfl rfl x_keepFrom_ds ⟨Nat.le_trans (Nat.le_of_ble_eq_true rfl) hRf, Nat.le_trans (Nat.le_of_ble_eq_true rfl) hRl⟩) (x_recv hK hW xO199 rfl) hK hY (Nat.le_trans hB0 hS.1) hW hS hcs rfl hl.1 rfl (Nat.le_of_ble_eq_true rfl) dX0_keeps_56 (fun H locs hW hS => ?_)
      refine lv_iload_n hx hb dX0_keeps_59 rfl (lv_at hl 3 rfl) ?_
      refine lv_iconst (v := (-1)) hx hb dX0_keeps_60 (by decide) ?_
      obtain ⟨v9, hm9, hf⟩ := ob1_e hf
      refine w_cutL (nL := 4) (L := []) (pcj := 91) (st := [.int v9]) (fun ls hl => ?_) (fun K9 => ?_)
      · obtain ⟨rfl, rfl, rfl⟩ := so3 hf
        exact W.iret hx hb hr (fun t ht _ => ⟨rfl, by rw [ht]; exact hW, hS.F ht⟩) hS.2.2 dX0_keeps_91
      · refine lv_icmp_ne (tgt := 71) hx hb dX0_keeps_61 (by decide) (fun c10 => ?_) (fun c10 => ?_)
        · rw [if_neg c10] at hm9
          refine lv_iload_n hx hb dX0_keeps_71 rfl (lv_at hl 3 rfl) ?_
          refine lv_iload_n hx hb dX0_keeps_72 rfl (lv_at hl 0 rfl) ?_
          obtain ⟨v11, h11, hm9⟩ := ob1_e hm9
          refine x_sR (ov := some (.int v11)) (D := D) (s0 := s0) (Sc := nS) (adc := ad) (Ic := (fun _ => 0)) (Ac := (fun _ _ => 0)) (Rc := nR) (Gc := nG) (Xc := []) (base := base) (As := [.int v5]) (rest := [.int a1]) ⟨hx, hb, hml, hown, hts⟩ (ji_bitCount_met l D s0 h0 ad [] base v5 v11 h11) (va_cwS 1 hts (lw_S q932 q933 q107 q934) rfl rfl rfl ji_bitCount_ds.2 ⟨Nat.le_trans (Nat.le_of_ble_eq_true rfl) hRf, Nat.le_trans (Nat.le_of_ble_eq_true rfl) hRl⟩) hK hY (Nat.le_trans hB0 hS.1) WX_nil hcs rfl hl.1 rfl (Nat.le_of_ble_eq_true rfl) dX0_keeps_73 ?_
          refine lv_icmp_ge (tgt := 88) hx hb dX0_keeps_76 (by decide) (fun c12 => ?_) (fun c12 => ?_)
          · rw [if_pos c12] at hm9
            refine lv_ldcw (v := (-1000000)) hx hb hown (hts _ q941) dX0_keeps_88 ?_
            obtain rfl := so1 hm9
            exact K9 ls (lv_sub hl [] rfl)
          · rw [if_neg c12] at hm9
            refine lv_aload_n hx hb dX0_keeps_79 rfl (lv_at hl 1 rfl) ?_
            refine x_get (v := .ref (ad 112)) hx hb hts hown hK hW xO199 in_X0 rfl 12 (by decide) q236 rfl rfl dX0_keeps_80 ?_
            refine lv_iload_n hx hb dX0_keeps_83 rfl (lv_at hl 3 rfl) ?_
            obtain ⟨v13, hv13, hm9⟩ := ob1_e hm9
            refine x_iald hx hb hK hW xA112 hv13 dX0_keeps_84 ?_
            refine lv_goto (tgt := 91) hx hb dX0_keeps_85 (by decide) ?_
            obtain rfl := so1 hm9
            exact K9 ls (lv_sub hl [] rfl)
        · rw [if_pos c10] at hm9
          refine lv_aload_n hx hb dX0_keeps_64 rfl (lv_at hl 1 rfl) ?_
          refine x_get (v := .int (I7 113)) hx hb hts hown hK hW xO199 in_X0 rfl 13 (by decide) q237 rfl rfl dX0_keeps_65 ?_
          refine lv_goto (tgt := 91) hx hb dX0_keeps_68 (by decide) ?_
          obtain rfl := so1 hm9
          exact K9 ls (lv_sub hl [] rfl)
    · rw [if_pos c4] at hf
      refine lv_ldc (v := (-1000001)) hx hb hown (hts _ q289) dX0_keeps_22 ?_
      obtain ⟨rfl, rfl, rfl⟩ := so3 hf
      exact W.iret hx hb hr (fun t ht _ => ⟨rfl, by rw [ht]; exact hW, hS.F ht⟩) hS.2.2 dX0_keeps_24
theorem x_keeps_ds : yX0_keeps.cls = RX0 ∧ yX0_keeps.cls ≠ "java/lang/invoke/MethodHandle" ∧ yX0_keeps.cls ≠ "java/lang/invoke/VarHandle" ∧ (parseMethodDescriptor yX0_keeps.desc).map (fun d => d.parameters.length) = some 2 := by decide +kernel
def x_crushed_L39 (R : Nat → Option Nat) (G : Nat → Nat → Option Nat) (pl n : Nat) (ks : Nat → Nat) (u1 : Int32) : Nat → (Nat → Int32) → (Nat → Nat → Int32) → Int32 → Option (((Nat → Int32) × (Nat → Nat → Int32) × Int32) ⊕ (Int32 × (Nat → Int32) × (Nat → Nat → Int32) × (Nat → Option Nat)))
  | 0, _, _, _ => none
  | k + 1, I, A, x2 =>
    if u1 ≤ x2 then (some (Sum.inl (I, A, x2))) else (ob2 (p_pass (sh 300 I) (sh 300 A) (sh 300 R) pl n ks) fun (I2 : Nat → Int32) (A3 : Nat → Nat → Int32) =>
      ob1 (p_crushed (sh 300 (mg 300 I I2)) (sh 300 (mg 300 A A3)) (sh 300 R) pl n ks) fun (v4 : Int32) =>
      if v4 = 0 then (some (Sum.inr (x2, mg 300 I I2, mg 300 A A3, R))) else (x_crushed_L39 R G pl n ks u1 k (mg 300 I I2) (mg 300 A A3) (x2 + 1)))
set_option maxRecDepth 100000 in
set_option maxHeartbeats 4000000 in
theorem x_crushed_L39_w {p : Program} {l : Launch} {e : Env} {R0 : Room} {s : State} {m : MethodId} {args : Array Value} {below : List Frame} {meth : Method} {c : Code} {cells slots : Nat} {Q : State → Prop} {D : dd_} {s0 : State} {ad : Nat → Nat} {X : va_W} {base : Nat} (hx : p.tables.exec = Jvm.exec) (hb : c.code = cX0_crushed) (hml : c.maxLocals = 3) (hown : s.vm.findClass RX0 = some m.cls) (hts : ∀ w ∈ lw_all, w.before args s = true) (hK : Kx D s) (hY : s0.WarmedH s.vm) (h0 : ∀ w ∈ lw_tbl, va_Nw w s0) (hRf : 8 ≤ R0.frames) (hRl : 184 ≤ R0.locals) (hcs : cells ≤ R0.cells ∧ slots ≤ R0.slots) (hB0 : base ≤ s.heap.size) (hAP : AP xS ad X base) (R : Nat → Option Nat) (G : Nat → Nat → Option Nat) (pl n : Nat) (ks : Nat → Nat) (u1 : Int32) (hR : RegX D X pl n ks) (out : ((Nat → Int32) × (Nat → Nat → Int32) × Int32) ⊕ (Int32 × (Nat → Int32) × (Nat → Nat → Int32) × (Nat → Option Nat))) (KX : ∀ (I9 : (Nat → Int32)) (A9 : (Nat → Nat → Int32)) (y2 : Int32) (H : Heap) (locs : List Loc) (ls : Array Slot), out = .inl (I9, A9, y2) → WX D xS ad I9 A9 R G X H → va_S (upB base) s.heap H locs → lv_has ls 3 [] → W p l e R0 s m args below meth c H locs cells slots Q (F0 m 69 ls [])) (KR : ∀ (r8 : Int32) (I8 : (Nat → Int32)) (A8 : (Nat → Nat → Int32)) (R8 : (Nat → Option Nat)) (H : Heap) (locs : List Loc) (ls : Array Slot) (pc : Nat), out = .inr (r8, I8, A8, R8) → WX D xS ad I8 A8 R8 G X H → va_S (upB base) s.heap H locs → decode cX0_crushed pc = .ok (.ireturn, 1) → W p l e R0 s m args below meth c H locs cells slots Q (F0 m pc ls [.int r8])) : ∀ (k : Nat) (I : (Nat → Int32)) (A : (Nat → Nat → Int32)) (x2 : Int32) (H : Heap) (locs : List Loc) (ls : Array Slot), x_crushed_L39 R G pl n ks u1 k I A x2 = some out → WX D xS ad I A R G X H → va_S (upB base) s.heap H locs → lv_has ls 3 [(0, .ref (ad 199)), (1, .int u1), (2, .int x2)] → W p l e R0 s m args below meth c H locs cells slots Q (F0 m 39 ls []) := by
  intro k
  induction k with
  | zero =>
    intro I A x2 H locs ls hf
    exact nomatch (show (none : Option (((Nat → Int32) × (Nat → Nat → Int32) × Int32) ⊕ (Int32 × (Nat → Int32) × (Nat → Nat → Int32) × (Nat → Option Nat)))) = some out from hf)
  | succ k ih =>
    intro I A x2 H locs ls hf hW hS hl
    have hf : (if u1 ≤ x2 then (some (Sum.inl (I, A, x2))) else (ob2 (p_pass (sh 300 I) (sh 300 A) (sh 300 R) pl n ks) fun (I2 : Nat → Int32) (A3 : Nat → Nat → Int32) =>
          ob1 (p_crushed (sh 300 (mg 300 I I2)) (sh 300 (mg 300 A A3)) (sh 300 R) pl n ks) fun (v4 : Int32) =>
          if v4 = 0 then (some (Sum.inr (x2, mg 300 I I2, mg 300 A A3, R))) else (x_crushed_L39 R G pl n ks u1 k (mg 300 I I2) (mg 300 A A3) (x2 + 1)))) = some out := hf
    refine lv_iload_n hx hb dX0_crushed_39 rfl (lv_at hl 2 rfl) ?_
    refine lv_iload_n hx hb dX0_crushed_40 rfl (lv_at hl 1 rfl) ?_
    refine lv_icmp_ge (tgt := 69) hx hb dX0_crushed_41 (by decide) (fun c1 => ?_) (fun c1 => ?_)
    · rw [if_pos c1] at hf
      obtain rfl := so1 hf
      exact KX _ _ _ _ _ ls rfl hW hS (lv_sub hl [] rfl)
    · rw [if_neg c1] at hf
      refine lv_aload_n hx hb dX0_crushed_44 rfl (lv_at hl 0 rfl) ?_
      refine x_get (v := .ref (ad 399)) hx hb hts hown hK hW xO199 in_X0 rfl 5 (by decide) q229 rfl rfl dX0_crushed_45 ?_
      obtain ⟨I2, A3, h3, hf⟩ := ob2_e hf
      refine x_vW (ov := none) (D := D) (s0 := s0) (Sc := pS) (adc := (sh 300 ad)) (Ic := (sh 300 I)) (Ac := (sh 300 A)) (Rc := (sh 300 R)) (Gc := nG) (Xc := (xr300 D ad I A R G X)) (base := base) (As := []) (rest := []) (Ic1 := I2) (Ac1 := A3) (Rc1 := (sh 300 R)) (Gc1 := nG) (Xc1 := (xr300 D ad I A R G X)) (b := ad 399) (C := RX1) ⟨hx, hb, hml, hown, hts⟩ (p_pass_met l D s0 h0 (sh 300 ad) (xr300 D ad I A R G X) base (xap300 hAP) (sh 300 I) (sh 300 A) (sh 300 R) pl n ks (xrg300 hR)  I2 A3 h3) (g_cwV 0 hts (lw_V q868 q869 q870 q77 q871) rfl rfl p_pass_ds ⟨Nat.le_trans (Nat.le_of_ble_eq_true rfl) hRf, Nat.le_trans (Nat.le_of_ble_eq_true rfl) hRl⟩) (x_recv hK hW xO399 rfl) hK hY (Nat.le_trans hB0 hS.1) (xw300 hW) hS hcs rfl hl.1 rfl (Nat.le_of_ble_eq_true rfl) dX0_crushed_48 (fun H locs hW hS => ?_)
      have hW : WX D xS ad (mg 300 I I2) (mg 300 A A3) R G X H := xu300 rfl rfl (mg_sh 300 _).symm hW
      refine lv_aload_n hx hb dX0_crushed_51 rfl (lv_at hl 0 rfl) ?_
      refine x_get (v := .ref (ad 399)) hx hb hts hown hK hW xO199 in_X0 rfl 5 (by decide) q229 rfl rfl dX0_crushed_52 ?_
      obtain ⟨v4, h4, hf⟩ := ob1_e hf
      refine x_vR (ov := some (.int v4)) (D := D) (s0 := s0) (Sc := pS) (adc := (sh 300 ad)) (Ic := (sh 300 (mg 300 I I2))) (Ac := (sh 300 (mg 300 A A3))) (Rc := (sh 300 R)) (Gc := nG) (Xc := (xr300 D ad (mg 300 I I2) (mg 300 A A3) R G X)) (base := base) (As := []) (rest := []) (b := ad 399) (C := RX1) ⟨hx, hb, hml, hown, hts⟩ (p_crushed_met l D s0 h0 (sh 300 ad) (xr300 D ad (mg 300 I I2) (mg 300 A A3) R G X) base (sh 300 (mg 300 I I2)) (sh 300 (mg 300 A A3)) (sh 300 R) pl n ks (xrg300 hR)  v4 h4) (g_cwV 0 hts (lw_V q889 q890 q891 q77 q892) rfl rfl p_crushed_ds ⟨Nat.le_trans (Nat.le_of_ble_eq_true rfl) hRf, Nat.le_trans (Nat.le_of_ble_eq_true rfl) hRl⟩) (x_recv hK hW xO399 rfl) hK hY (Nat.le_trans hB0 hS.1) (xw300 hW) hcs rfl hl.1 rfl (Nat.le_of_ble_eq_true rfl) dX0_crushed_55 ?_
      refine lv_if_ne (tgt := 63) hx hb dX0_crushed_58 (by decide) (fun c5 => ?_) (fun c5 => ?_)
      · rw [if_neg c5] at hf
        refine lv_iinc (v := x2 + 1) (lv' := [(2, .int (x2 + 1)), (0, .ref (ad 199)), (1, .int u1)]) hx hb dX0_crushed_63 hl (k := 2) rfl (by rfl) (by decide) rfl (fun ls hl => ?_)
        refine lv_goto (tgt := 39) hx hb dX0_crushed_66 (by decide) ?_
        exact ih (mg 300 I I2) (mg 300 A A3) (x2 + 1) _ _ ls hf hW hS (lv_sub hl [1, 2, 0] rfl)
      · rw [if_pos c5] at hf
        refine lv_iload_n hx hb dX0_crushed_61 rfl (lv_at hl 2 rfl) ?_
        obtain rfl := so1 hf
        exact KR _ _ _ _ _ _ ls _ rfl hW hS dX0_crushed_62
def x_crushed (I : Nat → Int32) (A : Nat → Nat → Int32) (R : Nat → Option Nat) (G : Nat → Nat → Option Nat) (pl n : Nat) (ks : Nat → Nat) (a0 : Int32) : Option (Int32 × (Nat → Int32) × (Nat → Nat → Int32) × (Nat → Option Nat)) :=
  ob1 (x_isParish I A R G pl n ks) fun (v1 : Int32) =>
  if v1 = 0 then (some ((-1000002), I, A, R)) else (ob1 (x_isIn a0.toInt64 1 60) fun (v3 : Int32) =>
    if v3 = 0 then (some ((-1000001), I, A, R)) else (ob3 (p_become (sl2 300 200 I) (sl2 300 200 A) (sl2 300 200 R)) fun (I5 : Nat → Int32) (A6 : Nat → Nat → Int32) (R7 : Nat → Option Nat) =>
      obS (x_crushed_L39 (mg 300 (mg 200 R (sh 100 R7)) R7) G pl n ks a0 NF (mg 300 (mg 200 I (sh 100 I5)) I5) (mg 300 (mg 200 A (sh 100 A6)) A6) 0) fun ⟨I8, A9, v10⟩ =>
      some ((-1000000), I8, A9, mg 300 (mg 200 R (sh 100 R7)) R7)))
set_option maxRecDepth 100000 in
set_option maxHeartbeats 4000000 in
theorem x_crushed_met (l : Launch) (D : dd_) (s0 : State) (h0 : ∀ w ∈ lw_tbl, va_Nw w s0) (ad : Nat → Nat) (X : va_W) (base : Nat) (hAP : AP xS ad X base) (I : Nat → Int32) (A : Nat → Nat → Int32) (R : Nat → Option Nat) (G : Nat → Nat → Option Nat) (pl n : Nat) (ks : Nat → Nat) (hR : RegX D X pl n ks) (a0 : Int32) (r : Int32) (I1 : (Nat → Int32)) (A1 : (Nat → Nat → Int32)) (R1 : (Nat → Option Nat)) (hf : x_crushed I A R G pl n ks a0 = some (r, I1, A1, R1)) : Met l yX0_crushed (ws_ yX0_crushed cX0_crushed 3 (some .int)) ({ frames := 8, cells := 0, slots := 0, locals := 184 }) (PcX D s0 xS ad I A R G X base [.ref (ad 199), .int a0]) (QcX D xS ad I1 A1 R1 G X base (some (.int r))) 0 0 (upB base) := by
  refine Met.ofW (cc := cX0_crushed) (maxL := 3) (ret := (some .int)) (by decide) rfl ?_
  intro p e s m args below meth c s₁ B hml hv
  obtain ⟨rfl, hK, hY, hB0, hW⟩ := hv
  have hx := B.exec
  have hb := B.bytes
  have hr := B.returns
  have hts := atoms_spec (ws := (ws_ yX0_crushed cX0_crushed 3 (some .int))) B.pre
  have hts : ∀ w ∈ lw_all, w.before _ s = true := fun w h => hts w (List.mem_cons_of_mem _ h)
  have hown : s.vm.findClass RX0 = some m.cls := findClass_of_methodNamed B.named
  have hlocks := B.notSynchronized
  have hRf : 8 ≤ (headSpec (ws_ yX0_crushed cX0_crushed 3 (some .int)) ({ frames := 8, cells := 0, slots := 0, locals := 184 })).room.frames := Nat.le_refl _
  have hRl : 184 ≤ (headSpec (ws_ yX0_crushed cX0_crushed 3 (some .int)) ({ frames := 8, cells := 0, slots := 0, locals := 184 })).room.locals := Nat.le_refl _
  have hcs : 0 ≤ (headSpec (ws_ yX0_crushed cX0_crushed 3 (some .int)) ({ frames := 8, cells := 0, slots := 0, locals := 184 })).room.cells ∧ 0 ≤ (headSpec (ws_ yX0_crushed cX0_crushed 3 (some .int)) ({ frames := 8, cells := 0, slots := 0, locals := 184 })).room.slots := ⟨Nat.zero_le _, Nat.zero_le _⟩
  have hS : va_S (upB base) s.heap s.heap [] := va_S.rf
  have hl := lv_entry ([.ref (ad 199), .int a0]) (n := 3) (Nat.le_of_ble_eq_true rfl)
  rw [lg_entry_eq]
  generalize (lg_sl ([.ref (ad 199), .int a0]) ++ List.replicate (3 - (lg_sl ([.ref (ad 199), .int a0])).length) Slot.unset).toArray = ls at hl ⊢
  have hl : lv_has ls 3 [(0, .ref (ad 199)), (1, .int a0)] := hl
  have hf : (ob1 (x_isParish I A R G pl n ks) fun (v1 : Int32) =>
    if v1 = 0 then (some ((-1000002), I, A, R)) else (ob1 (x_isIn a0.toInt64 1 60) fun (v3 : Int32) =>
      if v3 = 0 then (some ((-1000001), I, A, R)) else (ob3 (p_become (sl2 300 200 I) (sl2 300 200 A) (sl2 300 200 R)) fun (I5 : Nat → Int32) (A6 : Nat → Nat → Int32) (R7 : Nat → Option Nat) =>
        obS (x_crushed_L39 (mg 300 (mg 200 R (sh 100 R7)) R7) G pl n ks a0 NF (mg 300 (mg 200 I (sh 100 I5)) I5) (mg 300 (mg 200 A (sh 100 A6)) A6) 0) fun ⟨I8, A9, v10⟩ =>
        some ((-1000000), I8, A9, mg 300 (mg 200 R (sh 100 R7)) R7)))) = some (r, I1, A1, R1) := hf
  refine lv_aload_n hx hb dX0_crushed_0 rfl (lv_at hl 0 rfl) ?_
  obtain ⟨v1, h1, hf⟩ := ob1_e hf
  refine x_vR (ov := some (.int v1)) (D := D) (s0 := s0) (Sc := xS) (adc := ad) (Ic := I) (Ac := A) (Rc := R) (Gc := G) (Xc := X) (base := base) (As := []) (rest := []) (b := ad 199) (C := RX0) ⟨hx, hb, hml, hown, hts⟩ (x_isParish_met l D s0 h0 ad X base I A R G pl n ks hR  v1 h1) (g_cwV 0 hts (lw_V q863 q865 qs21 q76 q866) rfl rfl x_isParish_ds ⟨Nat.le_trans (Nat.le_of_ble_eq_true rfl) hRf, Nat.le_trans (Nat.le_of_ble_eq_true rfl) hRl⟩) (x_recv hK hW xO199 rfl) hK hY (Nat.le_trans hB0 hS.1) hW hcs rfl hl.1 rfl (Nat.le_of_ble_eq_true rfl) dX0_crushed_1 ?_
  refine lv_if_ne (tgt := 10) hx hb dX0_crushed_4 (by decide) (fun c2 => ?_) (fun c2 => ?_)
  · rw [if_neg c2] at hf
    refine lv_iload_n hx hb dX0_crushed_10 rfl (lv_at hl 1 rfl) ?_
    refine lv_i2l (v := a0.toInt64) hx hb dX0_crushed_11 rfl ?_
    refine lv_lconst (v := 1) hx hb dX0_crushed_12 (by decide) ?_
    refine lv_ldc2 (v := 60) hx hb hown (hts _ q1038) dX0_crushed_13 ?_
    obtain ⟨v3, h3, hf⟩ := ob1_e hf
    refine x_sR (ov := some (.int v3)) (D := D) (s0 := s0) (Sc := nS) (adc := ad) (Ic := (fun _ => 0)) (Ac := (fun _ _ => 0)) (Rc := nR) (Gc := nG) (Xc := []) (base := base) (As := [.long a0.toInt64, .long 1, .long 60]) (rest := []) ⟨hx, hb, hml, hown, hts⟩ (x_isIn_met l D s0 h0 ad [] base a0.toInt64 1 60 v3 h3) (va_cwS 3 hts (lw_S q285 q286 q76 q287) rfl rfl rfl x_isIn_ds.2 ⟨Nat.le_trans (Nat.le_of_ble_eq_true rfl) hRf, Nat.le_trans (Nat.le_of_ble_eq_true rfl) hRl⟩) hK hY (Nat.le_trans hB0 hS.1) WX_nil hcs rfl hl.1 rfl (Nat.le_of_ble_eq_true rfl) dX0_crushed_16 ?_
    refine lv_if_ne (tgt := 25) hx hb dX0_crushed_19 (by decide) (fun c4 => ?_) (fun c4 => ?_)
    · rw [if_neg c4] at hf
      refine lv_aload_n hx hb dX0_crushed_25 rfl (lv_at hl 0 rfl) ?_
      refine x_get (v := .ref (ad 399)) hx hb hts hown hK hW xO199 in_X0 rfl 5 (by decide) q229 rfl rfl dX0_crushed_26 ?_
      refine lv_aload_n hx hb dX0_crushed_29 rfl (lv_at hl 0 rfl) ?_
      refine x_get (v := .ref (ad 299)) hx hb hts hown hK hW xO199 in_X0 rfl 4 (by decide) q228 rfl rfl dX0_crushed_30 ?_
      obtain ⟨I5, A6, R7, h7, hf⟩ := ob3_e hf
      refine x_vW (ov := some (.ref (ad 399))) (D := D) (s0 := s0) (Sc := p2S) (adc := sl2 300 200 ad) (Ic := (sl2 300 200 I)) (Ac := (sl2 300 200 A)) (Rc := (sl2 300 200 R)) (Gc := nG) (Xc := (xq D ad I A R G X)) (base := base) (As := [.ref (ad 299)]) (rest := []) (Ic1 := I5) (Ac1 := A6) (Rc1 := R7) (Gc1 := nG) (Xc1 := (xq D ad I A R G X)) (b := ad 399) (C := RX1) ⟨hx, hb, hml, hown, hts⟩ (p_become_met l D s0 h0 (sl2 300 200 ad) (xq D ad I A R G X) base (xqap hAP) (sl2 300 200 I) (sl2 300 200 A) (sl2 300 200 R) I5 A6 R7 h7) (g_cwV 1 hts (lw_V q742 q743 q744 q77 q745) rfl rfl p_become_ds ⟨Nat.le_trans (Nat.le_of_ble_eq_true rfl) hRf, Nat.le_trans (Nat.le_of_ble_eq_true rfl) hRl⟩) (x_recv hK hW xO399 rfl) hK hY (Nat.le_trans hB0 hS.1) (xqw hW) hS hcs rfl hl.1 rfl (Nat.le_of_ble_eq_true rfl) dX0_crushed_33 (fun H locs hW hS => ?_)
      have hW : WX D xS ad (mg 300 (mg 200 I (sh 100 I5)) I5) (mg 300 (mg 200 A (sh 100 A6)) A6) (mg 300 (mg 200 R (sh 100 R7)) R7) G X H := xqu hW
      refine lv_pop hx hb dX0_crushed_36 rfl ?_
      refine lv_iconst (v := 0) hx hb dX0_crushed_37 (by decide) ?_
      refine lv_istore_n (lv' := [(2, .int 0), (0, .ref (ad 199)), (1, .int a0)]) hx hb dX0_crushed_38 rfl hl (by decide) rfl (fun ls hl => ?_)
      obtain ⟨outhq10, hq10, hf⟩ := obS_e hf
      refine x_crushed_L39_w hx hb hml hown hts hK hY h0 hRf hRl hcs hB0 hAP (mg 300 (mg 200 R (sh 100 R7)) R7) G pl n ks a0 hR outhq10 (fun I8 A9 v10 H locs ls e hW hS hl => ?_) (fun r8 I8 A8 R8 H locs ls pc e hW hS hd => by subst e; obtain ⟨rfl, rfl, rfl, rfl⟩ := so4 hf; exact W.iret hx hb hr (fun t ht _ => ⟨rfl, by rw [ht]; exact hW, hS.F ht⟩) hS.2.2 hd) NF (mg 300 (mg 200 I (sh 100 I5)) I5) (mg 300 (mg 200 A (sh 100 A6)) A6) 0 _ _ ls hq10 hW hS (lv_sub hl [1, 2, 0] rfl)
      subst e
      refine lv_ldcw (v := (-1000000)) hx hb hown (hts _ q941) dX0_crushed_69 ?_
      obtain ⟨rfl, rfl, rfl, rfl⟩ := so4 hf
      exact W.iret hx hb hr (fun t ht _ => ⟨rfl, by rw [ht]; exact hW, hS.F ht⟩) hS.2.2 dX0_crushed_72
    · rw [if_pos c4] at hf
      refine lv_ldc (v := (-1000001)) hx hb hown (hts _ q289) dX0_crushed_22 ?_
      obtain ⟨rfl, rfl, rfl, rfl⟩ := so4 hf
      exact W.iret hx hb hr (fun t ht _ => ⟨rfl, by rw [ht]; exact hW, hS.F ht⟩) hS.2.2 dX0_crushed_24
  · rw [if_pos c2] at hf
    refine lv_ldc (v := (-1000002)) hx hb hown (hts _ q756) dX0_crushed_7 ?_
    obtain ⟨rfl, rfl, rfl, rfl⟩ := so4 hf
    exact W.iret hx hb hr (fun t ht _ => ⟨rfl, by rw [ht]; exact hW, hS.F ht⟩) hS.2.2 dX0_crushed_9
theorem x_crushed_ds : yX0_crushed.cls = RX0 ∧ yX0_crushed.cls ≠ "java/lang/invoke/MethodHandle" ∧ yX0_crushed.cls ≠ "java/lang/invoke/VarHandle" ∧ (parseMethodDescriptor yX0_crushed.desc).map (fun d => d.parameters.length) = some 1 := by decide +kernel
