/-! lies -/
set_option maxRecDepth 100000
theorem iOf {i : Int32} (h : 0 ≤ i.toInt) : i = nI i.toNatClampNeg := by
  obtain ⟨j, hj, e⟩ := nI_of (x := i) (fun w => by rw [neg_i] at w; omega)
  rw [e, nI_clamp hj]
theorem iOfk {i : Int32} {k m : Nat} (h : 0 ≤ i.toInt) (h2 : i.toInt + k ≤ m) : i.toNatClampNeg + k ≤ m := by
  obtain ⟨j, hj, e⟩ := nI_of (x := i) (fun w => by rw [neg_i] at w; omega)
  rw [e, nI_toInt hj] at h2
  rw [e, nI_clamp hj]
  omega
def h_lies_L43 (I : Nat → Int32) (A : Nat → Nat → Int32) (R : Nat → Option Nat) (pl n : Nat) (ks : Nat → Nat) (k9 : Nat) (f9 : Nat → Int32) : Nat → Int32 → Int32 → Option (Int32 × Int32)
  | 0, _, _ => none
  | k + 1, x4, x5 =>
    if (nI k9) ≤ x5 then (some (x4, x5)) else (ob1 (p_load (sh 200 I) (sh 200 A) (sh 200 R) pl n ks x5) fun (v2 : Int32) =>
      ob1 (ldO f9 k9 x5) fun (v3 : Int32) =>
      ob1 (if v3 ≤ v2 then ((some 0 : Option (Int32))) else ((some ((1 : Int32) <<< (x5 &&& 31)) : Option (Int32)))) fun (v4 : Int32) =>
      h_lies_L43 I A R pl n ks k9 f9 k (x4 ||| v4) (x5 + 1))
set_option maxRecDepth 100000 in
set_option maxHeartbeats 4000000 in
theorem h_lies_L43_w {p : Program} {l : Launch} {e : Env} {R0 : Room} {s : State} {m : MethodId} {args : Array Value} {below : List Frame} {meth : Method} {c : Code} {cells slots : Nat} {Q : State → Prop} {D : dd_} {s0 : State} {ad : Nat → Nat} {base : Nat} {H : Heap} {locs : List Loc} {G : Nat → Nat → Option Nat} {X : va_W} (hx : p.tables.exec = Jvm.exec) (hb : c.code = cX0_lies) (hml : c.maxLocals = 6) (hown : s.vm.findClass RX0 = some m.cls) (hts : ∀ w ∈ lw_all, w.before args s = true) (hK : Kx D s) (hY : s0.WarmedH s.vm) (h0 : ∀ w ∈ lw_tbl, va_Nw w s0) (hRf : 7 ≤ R0.frames) (hRl : 162 ≤ R0.locals) (hcs : cells ≤ R0.cells ∧ slots ≤ R0.slots) (hB0 : base ≤ s.heap.size) (hS : va_S (upB base) s.heap H locs) (hAP : AP xS ad X base) (I : Nat → Int32) (A : Nat → Nat → Int32) (R : Nat → Option Nat) (pl n : Nat) (ks : Nat → Nat) (hR : RegX D X pl n ks) (hW : WX D xS ad I A R G X H) (a9 k9 : Nat) (f9 : Nat → Int32) (hm9 : (a9, Sum.inl (D.2 .int, k9, Sum.inl f9)) ∈ X) (y4 y5 : Int32) (KX : ∀ (ls : Array Slot), lv_has ls 6 [(0, .ref (ad 199)), (4, .int y4)] → W p l e R0 s m args below meth c H locs cells slots Q (F0 m 85 ls [])) : ∀ (k : Nat) (x4 x5 : Int32) (ls : Array Slot), h_lies_L43 I A R pl n ks k9 f9 k x4 x5 = some (y4, y5) → lv_has ls 6 [(0, .ref (ad 199)), (3, .ref a9), (4, .int x4), (5, .int x5)] → W p l e R0 s m args below meth c H locs cells slots Q (F0 m 43 ls []) := by
  intro k
  induction k with
  | zero =>
    intro x4 x5 ls hf
    cases hf
  | succ k ih =>
    intro x4 x5 ls hf hl
    have hf : (if (nI k9) ≤ x5 then (some (x4, x5)) else (ob1 (p_load (sh 200 I) (sh 200 A) (sh 200 R) pl n ks x5) fun (v2 : Int32) =>
          ob1 (ldO f9 k9 x5) fun (v3 : Int32) =>
          ob1 (if v3 ≤ v2 then ((some 0 : Option (Int32))) else ((some ((1 : Int32) <<< (x5 &&& 31)) : Option (Int32)))) fun (v4 : Int32) =>
          h_lies_L43 I A R pl n ks k9 f9 k (x4 ||| v4) (x5 + 1))) = some (y4, y5) := hf
    refine lv_iload hx hb dX0_lies_43 (lv_at hl 3 rfl) ?_
    refine lv_aload_n hx hb dX0_lies_45 rfl (lv_at hl 1 rfl) ?_
    refine x_alenD hx hb hK hW hm9 dX0_lies_46 ?_
    refine lv_icmp_ge (tgt := 85) hx hb dX0_lies_47 (by decide) (fun c1 => ?_) (fun c1 => ?_)
    · rw [if_pos c1] at hf
      obtain ⟨rfl, rfl⟩ := so2 hf
      exact KX ls (lv_sub hl [0, 2] rfl)
    · rw [if_neg c1] at hf
      refine lv_iload hx hb dX0_lies_50 (lv_at hl 2 rfl) ?_
      refine lv_aload_n hx hb dX0_lies_52 rfl (lv_at hl 0 rfl) ?_
      refine x_get (v := .ref (ad 299)) hx hb hts hown hK hW xO199 in_X0 rfl 4 (by decide) q228 rfl rfl dX0_lies_53 ?_
      refine lv_iload hx hb dX0_lies_56 (lv_at hl 3 rfl) ?_
      obtain ⟨v2, h2, hf⟩ := ob1_e hf
      refine x_vR (ov := some (.int v2)) (D := D) (s0 := s0) (Sc := pS) (adc := (sh 200 ad)) (Ic := (sh 200 I)) (Ac := (sh 200 A)) (Rc := (sh 200 R)) (Gc := nG) (Xc := (xr200 D ad I A R G X)) (base := base) (As := [.int x5]) (rest := [.int x4]) (b := ad 299) (C := RX1) ⟨hx, hb, hml, hown, hts⟩ (p_load_met l D s0 h0 (sh 200 ad) (xr200 D ad I A R G X) base (sh 200 I) (sh 200 A) (sh 200 R) pl n ks (xrg200 hR) x5 v2 h2) (g_cwV 1 hts (lw_V q858 q772 q773 q77 q774) rfl rfl p_load_ds ⟨Nat.le_trans (Nat.le_of_ble_eq_true rfl) hRf, Nat.le_trans (Nat.le_of_ble_eq_true rfl) hRl⟩) (x_recv hK hW xO299 rfl) hK hY (Nat.le_trans hB0 hS.1) (xw200 hW) hcs rfl hl.1 rfl (Nat.le_of_ble_eq_true rfl) dX0_lies_58 ?_
      refine lv_aload_n hx hb dX0_lies_61 rfl (lv_at hl 1 rfl) ?_
      refine lv_iload hx hb dX0_lies_62 (lv_at hl 3 rfl) ?_
      obtain ⟨v3, hv3, hf⟩ := ob1_e hf
      refine x_ialdD hx hb hK hW hm9 hv3 dX0_lies_64 ?_
      obtain ⟨v4, hm4, hf⟩ := ob1_e hf
      refine w_cutL (nL := 6) (L := [(0, .ref (ad 199)), (3, .ref a9), (5, .int x5)]) (pcj := 76) (st := [.int v4, .int x4]) (fun ls hl => ?_) (fun K4 => ?_)
      · refine lv_ior hx hb dX0_lies_76 ?_
        refine lv_istore (lv' := [(4, .int (x4 ||| v4)), (0, .ref (ad 199)), (3, .ref a9), (5, .int x5)]) hx hb dX0_lies_77 hl (by decide) rfl (fun ls hl => ?_)
        refine lv_iinc (v := x5 + 1) (lv' := [(5, .int (x5 + 1)), (4, .int (x4 ||| v4)), (0, .ref (ad 199)), (3, .ref a9)]) hx hb dX0_lies_79 hl (k := 3) rfl (by rfl) (by decide) rfl (fun ls hl => ?_)
        refine lv_goto (tgt := 43) hx hb dX0_lies_82 (by decide) ?_
        exact ih _ _ ls hf (lv_sub hl [2, 3, 1, 0] rfl)
      · refine lv_icmp_ge (tgt := 75) hx hb dX0_lies_65 (by decide) (fun c5 => ?_) (fun c5 => ?_)
        · rw [if_pos c5] at hm4
          refine lv_iconst (v := 0) hx hb dX0_lies_75 (by decide) ?_
          obtain rfl := so1 hm4
          exact K4 ls (lv_sub hl [0, 1, 3] rfl)
        · rw [if_neg c5] at hm4
          refine lv_iconst (v := 1) hx hb dX0_lies_68 (by decide) ?_
          refine lv_iload hx hb dX0_lies_69 (lv_at hl 3 rfl) ?_
          refine lv_ishl hx hb dX0_lies_71 ?_
          refine lv_goto (tgt := 76) hx hb dX0_lies_72 (by decide) ?_
          obtain rfl := so1 hm4
          exact K4 ls (lv_sub hl [0, 1, 3] rfl)
def h_lies (I : Nat → Int32) (A : Nat → Nat → Int32) (R : Nat → Option Nat) (P : Nat → Option Par) (N : Nat → Option Rw_) (T : Int32 × (Nat → Int32)) (pl n : Nat) (ks : Nat → Nat) (a0 : Int32) (a1 : Int32) : Option (Int32 × (Nat → Int32)) :=
  ob1 (x_isParish I A R nG pl n ks) fun (v1 : Int32) =>
  if v1 = 0 then (some ((-1000002), I)) else (ob1 (x_isRow a0) fun (v3 : Int32) =>
    if v3 = 0 then (some ((-1000001), I)) else (ob1 (slN 0 8 a0) fun (j5 : Nat) =>
      if (N j5).isSome = true then (ob1 (N j5) fun (F6 : Rw_) =>
        ob1 (p_many (sh 200 I) (sh 200 A) (sh 200 R) pl n ks) fun (v8 : Int32) =>
          ob1 (lenO v8) fun (j9 : Nat) =>
          if 0 ≤ a1.toInt ∧ a1.toInt + j9 ≤ F6.2.1 then (ob2 (h_lies_L43 I A R pl n ks j9 (va_cpy F6.2.2 (fun _ => 0) a1.toNatClampNeg 0 j9) NF 0 0) fun (v11 : Int32) (v12 : Int32) =>
            ob2 (x_well I A R nG pl n ks v11) fun (v13 : Int32) (I14 : Nat → Int32) =>
            some (v13, I14)) else (some ((-1000010) - 2, upd I 110 2))) else (some ((-1000010) - 1, upd I 110 1))))
set_option maxRecDepth 100000 in
set_option maxHeartbeats 4000000 in
theorem h_lies_met (l : Launch) (D : dd_) (s0 : State) (h0 : ∀ w ∈ lw_tbl, va_Nw w s0) (ad : Nat → Nat) (base : Nat) (r1 r2 : Option Nat) (de : Nat) (hz : FZ base s0 r1 r2 de) (I : Nat → Int32) (A : Nat → Nat → Int32) (R : Nat → Option Nat) (P : Nat → Option Par) (N : Nat → Option Rw_) (T : Int32 × (Nat → Int32)) (pl n : Nat) (ks : Nat → Nat) (Y : va_W) (a0 : Int32) (a1 : Int32) (r : Int32) (I1 : (Nat → Int32)) (hf : h_lies I A R P N T pl n ks a0 a1 = some (r, I1)) : Met l yX0_lies (wsW_ yX0_lies cX0_lies 6 (some .int) [(20, 91, 92, 71)]) ({ frames := 7, cells := 1, slots := 40, locals := 162 }) (PcH D s0 ad I A R (P, N, T, (pl, n, ks), Y) base [.ref (ad 199), .int a0, .int a1]) (QcE (HX D ad I1 A R (P, N, T, (pl, n, ks), Y) base) base (some (.int r))) 1 40 (upB base) := by
  refine va_MetW (cc := cX0_lies) (maxL := 6) (ret := (some .int)) (by decide) rfl ?_
  intro p e s m args below meth c s₁ B hml hv
  obtain ⟨rfl, hK, hY, hB0, hH, hq0⟩ := hv
  obtain ⟨G, X, own, af, ra, ta, hF, hAP, hW⟩ := hH
  have hR := hF.reg
  have hx := B.exec
  have hb := B.bytes
  have hr := B.returns
  have hts0 := atoms_spec (ws := (wsW_ yX0_lies cX0_lies 6 (some .int) [(20, 91, 92, 71)])) B.pre
  have hts : ∀ w ∈ lw_all, w.before _ s = true := fun w h => hts0 w (List.mem_cons_of_mem _ h)
  have hown : s.vm.findClass RX0 = some m.cls := findClass_of_methodNamed B.named
  have hlocks := B.notSynchronized
  have htab : tabE c = [(20, 91, 92, 71)] := by
    obtain ⟨m9, meth9, c9, hn9, h1, h2, -, -, h3, -⟩ := Cond.codeWith_spec (hts0 _ List.mem_cons_self)
    cases B.named.symm.trans hn9
    cases B.method.symm.trans h1
    cases (Stand.of_body B).code.symm.trans h2
    exact h3
  have hRf : 7 ≤ (headSpec (wsW_ yX0_lies cX0_lies 6 (some .int) [(20, 91, 92, 71)]) ({ frames := 7, cells := 1, slots := 40, locals := 162 })).room.frames := Nat.le_refl _
  have hRl : 162 ≤ (headSpec (wsW_ yX0_lies cX0_lies 6 (some .int) [(20, 91, 92, 71)]) ({ frames := 7, cells := 1, slots := 40, locals := 162 })).room.locals := Nat.le_refl _
  have hcs : 0 ≤ (headSpec (wsW_ yX0_lies cX0_lies 6 (some .int) [(20, 91, 92, 71)]) ({ frames := 7, cells := 1, slots := 40, locals := 162 })).room.cells ∧ 0 ≤ (headSpec (wsW_ yX0_lies cX0_lies 6 (some .int) [(20, 91, 92, 71)]) ({ frames := 7, cells := 1, slots := 40, locals := 162 })).room.slots := ⟨Nat.zero_le _, Nat.zero_le _⟩
  have hS : va_S (upB base) s.heap s.heap [] := va_S.rf
  have hl := lv_entry ([.ref (ad 199), .int a0, .int a1]) (n := 6) (Nat.le_of_ble_eq_true rfl)
  rw [lg_entry_eq]
  generalize (lg_sl ([.ref (ad 199), .int a0, .int a1]) ++ List.replicate (6 - (lg_sl ([.ref (ad 199), .int a0, .int a1])).length) Slot.unset).toArray = ls at hl ⊢
  have hl : lv_has ls 6 [(0, .ref (ad 199)), (1, .int a0), (2, .int a1)] := hl
  have hf : (ob1 (x_isParish I A R nG pl n ks) fun (v1 : Int32) =>
    if v1 = 0 then (some ((-1000002), I)) else (ob1 (x_isRow a0) fun (v3 : Int32) =>
      if v3 = 0 then (some ((-1000001), I)) else (ob1 (slN 0 8 a0) fun (j5 : Nat) =>
        if (N j5).isSome = true then (ob1 (N j5) fun (F6 : Rw_) =>
          ob1 (p_many (sh 200 I) (sh 200 A) (sh 200 R) pl n ks) fun (v8 : Int32) =>
            ob1 (lenO v8) fun (j9 : Nat) =>
            if 0 ≤ a1.toInt ∧ a1.toInt + j9 ≤ F6.2.1 then (ob2 (h_lies_L43 I A R pl n ks j9 (va_cpy F6.2.2 (fun _ => 0) a1.toNatClampNeg 0 j9) NF 0 0) fun (v11 : Int32) (v12 : Int32) =>
              ob2 (x_well I A R nG pl n ks v11) fun (v13 : Int32) (I14 : Nat → Int32) =>
              some (v13, I14)) else (some ((-1000010) - 2, upd I 110 2))) else (some ((-1000010) - 1, upd I 110 1))))) = some (r, I1) := hf
  refine lv_aload_n hx hb dX0_lies_0 rfl (lv_at hl 0 rfl) ?_
  obtain ⟨v1, h1, hf⟩ := ob1_e hf
  refine x_vR (ov := some (.int v1)) (D := D) (s0 := s0) (Sc := xS) (adc := ad) (Ic := I) (Ac := A) (Rc := R) (Gc := G) (Xc := X) (base := base) (As := []) (rest := []) (b := ad 199) (C := RX0) ⟨hx, hb, hml, hown, hts⟩ (x_isParish_met l D s0 h0 ad X base I A R G pl n ks hR  v1 h1) (g_cwV 0 hts (lw_V q863 q865 qs21 q76 q866) rfl rfl x_isParish_ds ⟨Nat.le_trans (Nat.le_of_ble_eq_true rfl) hRf, Nat.le_trans (Nat.le_of_ble_eq_true rfl) hRl⟩) (x_recv hK hW xO199 rfl) hK hY (Nat.le_trans hB0 hS.1) hW hcs rfl hl.1 rfl (Nat.le_of_ble_eq_true rfl) dX0_lies_1 ?_
  refine lv_if_ne (tgt := 10) hx hb dX0_lies_4 (by decide) (fun c2 => ?_) (fun c2 => ?_)
  · rw [if_neg c2] at hf
    refine lv_iload_n hx hb dX0_lies_10 rfl (lv_at hl 1 rfl) ?_
    obtain ⟨v3, h3, hf⟩ := ob1_e hf
    refine x_sR (ov := some (.int v3)) (D := D) (s0 := s0) (Sc := nS) (adc := ad) (Ic := (fun _ => 0)) (Ac := (fun _ _ => 0)) (Rc := nR) (Gc := nG) (Xc := []) (base := base) (As := [.int a0]) (rest := []) ⟨hx, hb, hml, hown, hts⟩ (x_isRow_met l D s0 h0 ad [] base a0 v3 h3) (va_cwS 1 hts (lw_S q281 q282 q76 q283) rfl rfl rfl x_isRow_ds.2 ⟨Nat.le_trans (Nat.le_of_ble_eq_true rfl) hRf, Nat.le_trans (Nat.le_of_ble_eq_true rfl) hRl⟩) hK hY (Nat.le_trans hB0 hS.1) WX_nil hcs rfl hl.1 rfl (Nat.le_of_ble_eq_true rfl) dX0_lies_11 ?_
    refine lv_if_ne (tgt := 20) hx hb dX0_lies_14 (by decide) (fun c4 => ?_) (fun c4 => ?_)
    · rw [if_neg c4] at hf
      refine lv_aload_n hx hb dX0_lies_20 rfl (lv_at hl 0 rfl) ?_
      refine lv_iload_n hx hb dX0_lies_21 rfl (lv_at hl 1 rfl) ?_
      obtain ⟨j5, hj5, hf⟩ := ob1_e hf
      by_cases c7 : (N j5).isSome = true
      · rw [if_pos c7] at hf
        obtain ⟨F6, hNF6, hf⟩ := ob1_e hf
        have hF6 := row_in hF (slN_n hj5).2 hNF6
        refine x_vR (ov := some (.ref (ra j5).1)) (D := D) (s0 := s0) (Sc := xS) (adc := ad) (Ic := I) (Ac := A) (Rc := R) (Gc := G) (Xc := X) (base := base) (As := [.int a0]) (rest := []) (b := ad 199) (C := RX0) ⟨hx, hb, hml, hown, hts⟩ (rowAt_ret l D s0 h0 ad X base I A R G a0 j5 hj5 _ hF6.1) (g_cwV 1 hts (lw_V q385 q387 qs3 q76 q388) rfl rfl rowAt_ds ⟨Nat.le_trans (Nat.le_of_ble_eq_true rfl) hRf, Nat.le_trans (Nat.le_of_ble_eq_true rfl) hRl⟩) (x_recv hK hW xO199 rfl) hK hY (Nat.le_trans hB0 hS.1) hW hcs rfl hl.1 rfl (Nat.le_of_ble_eq_true rfl) dX0_lies_22 ?_
        refine lv_iload_n hx hb dX0_lies_25 rfl (lv_at hl 2 rfl) ?_
        refine lv_aload_n hx hb dX0_lies_26 rfl (lv_at hl 0 rfl) ?_
        refine x_get (v := .ref (ad 299)) hx hb hts hown hK hW xO199 in_X0 rfl 4 (by decide) q228 rfl rfl dX0_lies_27 ?_
        obtain ⟨v8, h8, hf⟩ := ob1_e hf
        refine x_vR (ov := some (.int v8)) (D := D) (s0 := s0) (Sc := pS) (adc := (sh 200 ad)) (Ic := (sh 200 I)) (Ac := (sh 200 A)) (Rc := (sh 200 R)) (Gc := nG) (Xc := (xr200 D ad I A R G X)) (base := base) (As := []) (rest := [.int a1, .ref ((ra j5).1)]) (b := ad 299) (C := RX1) ⟨hx, hb, hml, hown, hts⟩ (p_many_met l D s0 h0 (sh 200 ad) (xr200 D ad I A R G X) base (sh 200 I) (sh 200 A) (sh 200 R) pl n ks (xrg200 hR)  v8 h8) (g_cwV 0 hts (lw_V q747 q602 q603 q77 q604) rfl rfl p_many_ds ⟨Nat.le_trans (Nat.le_of_ble_eq_true rfl) hRf, Nat.le_trans (Nat.le_of_ble_eq_true rfl) hRl⟩) (x_recv hK hW xO299 rfl) hK hY (Nat.le_trans hB0 hS.1) (xw200 hW) hcs rfl hl.1 rfl (Nat.le_of_ble_eq_true rfl) dX0_lies_30 ?_
        obtain ⟨j9, hj9, hf⟩ := ob1_e hf
        obtain ⟨hL1, hL2⟩ := lenO_e hj9
        rw [hL1]
        by_cases c10 : 0 ≤ a1.toInt ∧ a1.toInt + j9 ≤ F6.2.1
        · rw [if_pos c10] at hf
          have hi0 : a1 = nI a1.toNatClampNeg := iOf c10.1
          have hik : a1.toNatClampNeg + j9 ≤ F6.2.1 := iOfk c10.1 c10.2
          refine row_call hx hb hml hown hts hK hY h0 (Nat.le_trans (Nat.le_of_ble_eq_true rfl) hRf) (Nat.le_trans (Nat.le_of_ble_eq_true rfl) hRl) (Nat.le_of_ble_eq_true rfl) (by show _ ≤ 40; omega) hq0 hB0 hF hAP hW hS hF6.2.2.1 hF6.2.2.2 hF6.2.1 hik hi0 hl.1 (Nat.le_of_ble_eq_true rfl) dX0_lies_33 (fun H locs X own a8 hF hAP hW hS hm8 => ?_)
          have hR := hF.reg
          clear hi0
          refine w_more (cells' := 1) (slots' := 40) (by omega) (by omega) ?_
          have hcs : 1 ≤ (headSpec (wsW_ yX0_lies cX0_lies 6 (some .int) [(20, 91, 92, 71)]) ({ frames := 7, cells := 1, slots := 40, locals := 162 })).room.cells ∧ 40 ≤ (headSpec (wsW_ yX0_lies cX0_lies 6 (some .int) [(20, 91, 92, 71)]) ({ frames := 7, cells := 1, slots := 40, locals := 162 })).room.slots := ⟨Nat.le_of_ble_eq_true rfl, Nat.le_of_ble_eq_true rfl⟩
          refine lv_astore_n (lv' := [(3, .ref a8), (0, .ref (ad 199)), (1, .int a0), (2, .int a1)]) hx hb dX0_lies_36 rfl hl (by decide) rfl (fun ls hl => ?_)
          refine lv_iconst (v := 0) hx hb dX0_lies_37 (by decide) ?_
          refine lv_istore (lv' := [(4, .int 0), (3, .ref a8), (0, .ref (ad 199)), (1, .int a0), (2, .int a1)]) hx hb dX0_lies_38 hl (by decide) rfl (fun ls hl => ?_)
          refine lv_iconst (v := 0) hx hb dX0_lies_40 (by decide) ?_
          refine lv_istore (lv' := [(5, .int 0), (4, .int 0), (3, .ref a8), (0, .ref (ad 199)), (1, .int a0), (2, .int a1)]) hx hb dX0_lies_41 hl (by decide) rfl (fun ls hl => ?_)
          obtain ⟨v11, v12, hq12, hf⟩ := ob2_e hf
          refine h_lies_L43_w hx hb hml hown hts hK hY h0 hRf hRl hcs hB0 hS hAP I A R pl n ks hR hW a8 j9 (va_cpy F6.2.2 (fun _ => 0) a1.toNatClampNeg 0 j9) hm8 v11 v12 (fun ls hl => ?_) NF 0 0 ls hq12 (lv_sub hl [3, 2, 1, 0] rfl)
          refine lv_aload_n hx hb dX0_lies_85 rfl (lv_at hl 0 rfl) ?_
          refine lv_iload hx hb dX0_lies_86 (lv_at hl 1 rfl) ?_
          obtain ⟨v13, I14, h14, hf⟩ := ob2_e hf
          refine x_vW (ov := some (.int v13)) (D := D) (s0 := s0) (Sc := xS) (adc := ad) (Ic := I) (Ac := A) (Rc := R) (Gc := G) (Xc := X) (base := base) (As := [.int v11]) (rest := []) (Ic1 := I14) (Ac1 := A) (Rc1 := R) (Gc1 := G) (Xc1 := X) (b := ad 199) (C := RX0) ⟨hx, hb, hml, hown, hts⟩ (x_well_met l D s0 h0 ad X base hAP I A R G pl n ks hR v11 v13 I14 h14) (g_cwV 1 hts (lw_V q372 q374 qs1 q76 q375) rfl rfl x_well_ds ⟨Nat.le_trans (Nat.le_of_ble_eq_true rfl) hRf, Nat.le_trans (Nat.le_of_ble_eq_true rfl) hRl⟩) (x_recv hK hW xO199 rfl) hK hY (Nat.le_trans hB0 hS.1) hW hS hcs rfl hl.1 rfl (Nat.le_of_ble_eq_true rfl) dX0_lies_88 (fun H locs hW hS => ?_)
          obtain ⟨rfl, rfl⟩ := so2 hf
          exact W.iret hx hb hr (fun t ht _ => ⟨rfl, by rw [ht]; exact ⟨G, X, own, af, ra, ta, hF, hAP, hW⟩, hS.F ht⟩) hS.2.2 dX0_lies_91
        · rw [if_neg c10] at hf
          refine fi_caught (k := 2) 0 htab rfl (by decide) (by decide) hown hts hK hS hF ((runVT (g := F0 m 33 ls (.int (nI j9) :: .int a1 :: .ref ((ra j5).1) :: [])) (b := ((ra j5).1)) (As := [.int a1, .int (nI j9)]) (rest := []) (C := RX5) ⟨hx, hb, hml, hown, hts⟩ (rw_row_thr l D s0 h0 (wl D xS ad I A R G ++ X) base _ _ _ _ _ a1 j9 hL2 c10 (List.mem_append_right _ hF6.2.2.1) (List.mem_append_right _ hF6.2.2.2) hF6.2.1 (wx_D xwf hAP) r1 r2 de hz) (cwV 2 hts (lw_V q1028 q1029 q1030 q86 q1031) rfl rfl rfl rw_row_ds ⟨Nat.le_trans (Nat.le_of_ble_eq_true rfl) hRf, Nat.le_trans (Nat.le_of_ble_eq_true rfl) hRl⟩) ⟨PcZ_blind, x_recvD (ci := 5) hK hW hF6.2.2.1 rfl, pcz_at (Sc := nS) (adc := id) (Ic := fun _ => 0) (Ac := fun _ _ => 0) (Rc := nR) (Gc := nG) hY hK (Nat.le_trans hB0 hS.1) hW (z_low hq0 hB0 hS)⟩ rfl rfl hl.1 rfl (lv_room (m := m) (pc := 33) (ls := ls) (rest := []) (Nat.le_of_ble_eq_true rfl)) dX0_lies_33 ⟨Nat.le_of_ble_eq_true rfl, Nat.le_of_ble_eq_true rfl⟩).mono (Qb := QtE (FiT D xS ad I A R G X base 2) base #[]) (fun _ _ _ h => ⟨fit_up hAP.1 h.1, h.2⟩)) (fun x9 R9 H locs X own hF hAP hW hS hm9 => ?_)
          have hcs : 0 + 1 ≤ (headSpec (wsW_ yX0_lies cX0_lies 6 (some .int) [(20, 91, 92, 71)]) ({ frames := 7, cells := 1, slots := 40, locals := 162 })).room.cells ∧ 0 + 7 ≤ (headSpec (wsW_ yX0_lies cX0_lies 6 (some .int) [(20, 91, 92, 71)]) ({ frames := 7, cells := 1, slots := 40, locals := 162 })).room.slots := ⟨Nat.le_of_ble_eq_true rfl, Nat.le_of_ble_eq_true rfl⟩
          refine lv_astore_n (lv' := [(3, .ref x9), (0, .ref (ad 199)), (1, .int a0), (2, .int a1)]) hx hb dX0_lies_92 rfl hl (by decide) rfl (fun ls hl => ?_)
          refine lv_aload_n hx hb dX0_lies_93 rfl (lv_at hl 1 rfl) ?_
          refine lv_aload_n hx hb dX0_lies_94 rfl (lv_at hl 0 rfl) ?_
          refine x_vW (ov := some (.int ((-1000010) - 2))) (D := D) (s0 := s0) (Sc := xS) (adc := ad) (Ic := I) (Ac := A) (Rc := R) (Gc := G) (Xc := X) (base := base) (As := [.ref x9]) (rest := []) (Ic1 := upd I 110 2) (Ac1 := A) (Rc1 := R) (Gc1 := G) (Xc1 := X) (b := ad 199) (C := RX0) ⟨hx, hb, hml, hown, hts⟩ (found_met l D s0 h0 ad X base hAP I A R G x9 R9 2 hm9) (g_cwV 1 hts (lw_V q376 q378 qs2 q76 q379) rfl rfl found_ds ⟨Nat.le_trans (Nat.le_of_ble_eq_true rfl) hRf, Nat.le_trans (Nat.le_of_ble_eq_true rfl) hRl⟩) (x_recv hK hW xO199 rfl) hK hY (Nat.le_trans hB0 hS.1) hW hS hcs rfl hl.1 rfl (Nat.le_of_ble_eq_true rfl) dX0_lies_95 (fun H locs hW hS => ?_)
          obtain ⟨rfl, rfl⟩ := so2 hf
          refine w_more (cells' := 1) (slots' := 40) (Nat.le_of_ble_eq_true rfl) (Nat.le_of_ble_eq_true rfl) ?_
          exact W.iret hx hb hr (fun t ht _ => ⟨rfl, by rw [ht]; exact ⟨G, X, own, af, ra, ta, hF, hAP, hW⟩, hS.F ht⟩) hS.2.2 dX0_lies_98
      · rw [if_neg c7] at hf
        have hN9 : N j5 = none := Option.not_isSome_iff_eq_none.mp c7
        refine fi_caught (k := 1) 0 htab rfl (by decide) (by decide) hown hts hK hS hF (runVT (g := F0 m 22 ls (.int a0 :: .ref (ad 199) :: [])) (b := ad 199) (As := [.int a0]) (rest := []) (C := RX0) ⟨hx, hb, hml, hown, hts⟩ (rowAt_thr l D s0 h0 ad X base hAP I A R G r1 r2 de hz a0 j5 hj5 ((hF.2.1 j5 (slN_n hj5).2).1 hN9)) (cwV 1 hts (lw_V q385 q387 qs3 q76 q388) rfl rfl rfl rowAt_ds ⟨Nat.le_trans (Nat.le_of_ble_eq_true rfl) hRf, Nat.le_trans (Nat.le_of_ble_eq_true rfl) hRl⟩) ⟨PcZ_blind, x_recv hK hW xO199 rfl, pcz_at hY hK (Nat.le_trans hB0 hS.1) hW (z_low hq0 hB0 hS)⟩ rfl rfl hl.1 rfl (lv_room (m := m) (pc := 22) (ls := ls) (rest := []) (Nat.le_of_ble_eq_true rfl)) dX0_lies_22 ⟨Nat.le_of_ble_eq_true rfl, Nat.le_of_ble_eq_true rfl⟩) (fun x9 R9 H locs X own hF hAP hW hS hm9 => ?_)
        have hcs : 0 + 1 ≤ (headSpec (wsW_ yX0_lies cX0_lies 6 (some .int) [(20, 91, 92, 71)]) ({ frames := 7, cells := 1, slots := 40, locals := 162 })).room.cells ∧ 0 + 7 ≤ (headSpec (wsW_ yX0_lies cX0_lies 6 (some .int) [(20, 91, 92, 71)]) ({ frames := 7, cells := 1, slots := 40, locals := 162 })).room.slots := ⟨Nat.le_of_ble_eq_true rfl, Nat.le_of_ble_eq_true rfl⟩
        refine lv_astore_n (lv' := [(3, .ref x9), (0, .ref (ad 199)), (1, .int a0), (2, .int a1)]) hx hb dX0_lies_92 rfl hl (by decide) rfl (fun ls hl => ?_)
        refine lv_aload_n hx hb dX0_lies_93 rfl (lv_at hl 1 rfl) ?_
        refine lv_aload_n hx hb dX0_lies_94 rfl (lv_at hl 0 rfl) ?_
        refine x_vW (ov := some (.int ((-1000010) - 1))) (D := D) (s0 := s0) (Sc := xS) (adc := ad) (Ic := I) (Ac := A) (Rc := R) (Gc := G) (Xc := X) (base := base) (As := [.ref x9]) (rest := []) (Ic1 := upd I 110 1) (Ac1 := A) (Rc1 := R) (Gc1 := G) (Xc1 := X) (b := ad 199) (C := RX0) ⟨hx, hb, hml, hown, hts⟩ (found_met l D s0 h0 ad X base hAP I A R G x9 R9 1 hm9) (g_cwV 1 hts (lw_V q376 q378 qs2 q76 q379) rfl rfl found_ds ⟨Nat.le_trans (Nat.le_of_ble_eq_true rfl) hRf, Nat.le_trans (Nat.le_of_ble_eq_true rfl) hRl⟩) (x_recv hK hW xO199 rfl) hK hY (Nat.le_trans hB0 hS.1) hW hS hcs rfl hl.1 rfl (Nat.le_of_ble_eq_true rfl) dX0_lies_95 (fun H locs hW hS => ?_)
        obtain ⟨rfl, rfl⟩ := so2 hf
        refine w_more (cells' := 1) (slots' := 40) (Nat.le_of_ble_eq_true rfl) (Nat.le_of_ble_eq_true rfl) ?_
        exact W.iret hx hb hr (fun t ht _ => ⟨rfl, by rw [ht]; exact ⟨G, X, own, af, ra, ta, hF, hAP, hW⟩, hS.F ht⟩) hS.2.2 dX0_lies_98
    · rw [if_pos c4] at hf
      refine lv_ldc (v := (-1000001)) hx hb hown (hts _ q289) dX0_lies_17 ?_
      obtain ⟨rfl, rfl⟩ := so2 hf
      refine w_more (cells' := 1) (slots' := 40) (Nat.le_of_ble_eq_true rfl) (Nat.le_of_ble_eq_true rfl) ?_
      exact W.iret hx hb hr (fun t ht _ => ⟨rfl, by rw [ht]; exact ⟨G, X, own, af, ra, ta, hF, hAP, hW⟩, hS.F ht⟩) hS.2.2 dX0_lies_19
  · rw [if_pos c2] at hf
    refine lv_ldc (v := (-1000002)) hx hb hown (hts _ q756) dX0_lies_7 ?_
    obtain ⟨rfl, rfl⟩ := so2 hf
    refine w_more (cells' := 1) (slots' := 40) (Nat.le_of_ble_eq_true rfl) (Nat.le_of_ble_eq_true rfl) ?_
    exact W.iret hx hb hr (fun t ht _ => ⟨rfl, by rw [ht]; exact ⟨G, X, own, af, ra, ta, hF, hAP, hW⟩, hS.F ht⟩) hS.2.2 dX0_lies_9
theorem h_lies_ds : yX0_lies.cls = RX0 ∧ yX0_lies.cls ≠ "java/lang/invoke/MethodHandle" ∧ yX0_lies.cls ≠ "java/lang/invoke/VarHandle" ∧ (parseMethodDescriptor yX0_lies.desc).map (fun d => d.parameters.length) = some 2 := by decide +kernel
