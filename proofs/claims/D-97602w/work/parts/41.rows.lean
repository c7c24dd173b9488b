/-! rows -/
set_option maxRecDepth 100000 in
set_option maxHeartbeats 4000000 in
theorem found_met (l : Launch) (D : dd_) (s0 : State) (h0 : ∀ w ∈ lw_tbl, va_Nw w s0) (ad : Nat → Nat) (X : va_W) (base : Nat) (hAP : AP xS ad X base) (I : Nat → Int32) (A : Nat → Nat → Int32) (R : Nat → Option Nat) (G : Nat → Nat → Option Nat) (x : Nat) (R1 : Nat → Option Nat) (k : Int32) (hm : (x, Sum.inr (4, fiF R1 k)) ∈ X) : Met l yX0_found (ws_ yX0_found cX0_found 2 (some .int)) ({ frames := 1, cells := 0, slots := 0, locals := 32 }) (PcX D s0 xS ad I A R G X base [.ref (ad 199), .ref x]) (QcX D xS ad (upd I 110 k) A R G X base (some (.int ((-1000010) - k)))) 0 0 (upB base) := by
  refine Met.ofW (cc := cX0_found) (maxL := 2) (ret := (some .int)) (by decide) rfl ?_
  intro p e s m args below meth c s₁ B hml hv
  obtain ⟨rfl, hK, hY, hB0, hW⟩ := hv
  have hx := B.exec
  have hb := B.bytes
  have hr := B.returns
  have hts0 := atoms_spec (ws := (ws_ yX0_found cX0_found 2 (some .int))) B.pre
  have hts : ∀ w ∈ lw_all, w.before _ s = true := fun w h => hts0 w (List.mem_cons_of_mem _ h)
  have hown : s.vm.findClass RX0 = some m.cls := findClass_of_methodNamed B.named
  have hlocks := B.notSynchronized
  have hRf : 1 ≤ (headSpec (ws_ yX0_found cX0_found 2 (some .int)) ({ frames := 1, cells := 0, slots := 0, locals := 32 })).room.frames := Nat.le_refl _
  have hRl : 32 ≤ (headSpec (ws_ yX0_found cX0_found 2 (some .int)) ({ frames := 1, cells := 0, slots := 0, locals := 32 })).room.locals := Nat.le_refl _
  have hcs : 0 ≤ (headSpec (ws_ yX0_found cX0_found 2 (some .int)) ({ frames := 1, cells := 0, slots := 0, locals := 32 })).room.cells ∧ 0 ≤ (headSpec (ws_ yX0_found cX0_found 2 (some .int)) ({ frames := 1, cells := 0, slots := 0, locals := 32 })).room.slots := ⟨Nat.zero_le _, Nat.zero_le _⟩
  have hS : va_S (upB base) s.heap s.heap [] := va_S.rf
  have hl := lv_entry ([.ref (ad 199), .ref x]) (n := 2) (Nat.le_of_ble_eq_true rfl)
  rw [lg_entry_eq]
  generalize (lg_sl ([.ref (ad 199), .ref x]) ++ List.replicate (2 - (lg_sl ([.ref (ad 199), .ref x])).length) Slot.unset).toArray = ls at hl ⊢
  have hl : lv_has ls 2 [(0, .ref (ad 199)), (1, .ref x)] := hl
  refine lv_aload_n hx hb dX0_found_0 rfl (lv_at hl 0 rfl) ?_
  refine lv_aload_n hx hb dX0_found_1 rfl (lv_at hl 1 rfl) ?_
  refine x_getD (v := .int k) hx hb hts hown hK hW hm in_X4 rfl 6 (by decide) q342 (fun _ h => h) rfl dX0_found_2 ?_
  refine x_putI hx hb hts hown hK xwf hAP hW hS xO199 in_X0 tyX0 tyX0_ok nmX0 rfl 10 110 (by decide) rfl q234 rfl rfl (by decide +kernel) dX0_found_5 (fun H locs hW hS => ?_)
  refine lv_ldc (v := (-1000010)) hx hb hown (hts _ q380) dX0_found_8 ?_
  refine lv_aload_n hx hb dX0_found_10 rfl (lv_at hl 1 rfl) ?_
  refine x_getD (v := .int k) hx hb hts hown hK hW hm in_X4 rfl 6 (by decide) q342 (fun _ h => h) rfl dX0_found_11 ?_
  refine lv_isub hx hb dX0_found_14 ?_
  exact W.iret hx hb hr (fun t ht _ => ⟨rfl, by rw [ht]; exact hW, hS.F ht⟩) hS.2.2 dX0_found_15
theorem found_ds : yX0_found.cls = RX0 ∧ yX0_found.cls ≠ "java/lang/invoke/MethodHandle" ∧ yX0_found.cls ≠ "java/lang/invoke/VarHandle" ∧ (parseMethodDescriptor yX0_found.desc).map (fun d => d.parameters.length) = some 1 := by decide +kernel
set_option maxRecDepth 100000 in
set_option maxHeartbeats 4000000 in
theorem rowAt_ret (l : Launch) (D : dd_) (s0 : State) (h0 : ∀ w ∈ lw_tbl, va_Nw w s0) (ad : Nat → Nat) (X : va_W) (base : Nat) (I : Nat → Int32) (A : Nat → Nat → Int32) (R : Nat → Option Nat) (G : Nat → Nat → Option Nat) (i : Int32) (j : Nat) (hj : slN 0 8 i = some j) (rr : Nat) (hg : G 100 j = some rr) : Met l yX0_rowAt (ws_ yX0_rowAt cX0_rowAt 2 (some (.object "PromisePounds$Row"))) ({ frames := 2, cells := 0, slots := 0, locals := 53 }) (PcX D s0 xS ad I A R G X base [.ref (ad 199), .int i]) (QcR (some (.ref rr))) 0 0 (fun _ => False) := by
  refine Met.ofW (cc := cX0_rowAt) (maxL := 2) (ret := (some (.object "PromisePounds$Row"))) (by decide) rfl ?_
  intro p e s m args below meth c s₁ B hml hv
  obtain ⟨rfl, hK, hY, hB0, hW⟩ := hv
  have hx := B.exec
  have hb := B.bytes
  have hr := B.returns
  have hts0 := atoms_spec (ws := (ws_ yX0_rowAt cX0_rowAt 2 (some (.object "PromisePounds$Row")))) B.pre
  have hts : ∀ w ∈ lw_all, w.before _ s = true := fun w h => hts0 w (List.mem_cons_of_mem _ h)
  have hown : s.vm.findClass RX0 = some m.cls := findClass_of_methodNamed B.named
  have hlocks := B.notSynchronized
  have hRf : 2 ≤ (headSpec (ws_ yX0_rowAt cX0_rowAt 2 (some (.object "PromisePounds$Row"))) ({ frames := 2, cells := 0, slots := 0, locals := 53 })).room.frames := Nat.le_refl _
  have hRl : 53 ≤ (headSpec (ws_ yX0_rowAt cX0_rowAt 2 (some (.object "PromisePounds$Row"))) ({ frames := 2, cells := 0, slots := 0, locals := 53 })).room.locals := Nat.le_refl _
  have hcs : 0 ≤ (headSpec (ws_ yX0_rowAt cX0_rowAt 2 (some (.object "PromisePounds$Row"))) ({ frames := 2, cells := 0, slots := 0, locals := 53 })).room.cells ∧ 0 ≤ (headSpec (ws_ yX0_rowAt cX0_rowAt 2 (some (.object "PromisePounds$Row"))) ({ frames := 2, cells := 0, slots := 0, locals := 53 })).room.slots := ⟨Nat.zero_le _, Nat.zero_le _⟩
  have hS : va_S (upB base) s.heap s.heap [] := va_S.rf
  have hl := lv_entry ([.ref (ad 199), .int i]) (n := 2) (Nat.le_of_ble_eq_true rfl)
  rw [lg_entry_eq]
  generalize (lg_sl ([.ref (ad 199), .int i]) ++ List.replicate (2 - (lg_sl ([.ref (ad 199), .int i])).length) Slot.unset).toArray = ls at hl ⊢
  have hl : lv_has ls 2 [(0, .ref (ad 199)), (1, .int i)] := hl
  refine lv_aload_n hx hb dX0_rowAt_0 rfl (lv_at hl 0 rfl) ?_
  refine x_get (v := .ref (ad 100)) hx hb hts hown hK hW xO199 in_X0 rfl 0 (by decide) q224 rfl rfl dX0_rowAt_1 ?_
  refine lv_iload_n hx hb dX0_rowAt_4 rfl (lv_at hl 1 rfl) ?_
  refine x_aald (v := some rr) hx hb hK hW (by decide) xG100 (show aldO (G 100) 8 i = some (some rr) by rw [(slN_n hj).1, ald_nI (slN_n hj).2 (by decide), hg]) dX0_rowAt_5 ?_
  refine x_ifn (tgt := 13) hx hb dX0_rowAt_6 (by decide) (fun cx => absurd cx (by simp)) (fun _ => ?_)
  refine lv_iconst (v := 1) hx hb dX0_rowAt_9 (by decide) ?_
  refine lv_goto (tgt := 14) hx hb dX0_rowAt_10 (by decide) ?_
  refine lv_iconst (v := 1) hx hb dX0_rowAt_14 (by decide) ?_
  refine x_sR (ov := none) (D := D) (s0 := s0) (Sc := nS) (adc := ad) (Ic := fun _ => 0) (Ac := fun _ _ => 0) (Rc := nR) (Gc := nG) (Xc := []) (base := base) (As := [.int 1, .int 1]) (rest := []) ⟨hx, hb, hml, hown, hts⟩ (must_ret l D s0 ad base 1 1 (by decide)) (va_cwS 2 hts (lw_S q290 q291 q76 q292) rfl rfl rfl must_ds.2 ⟨Nat.le_trans (Nat.le_of_ble_eq_true rfl) hRf, Nat.le_trans (Nat.le_of_ble_eq_true rfl) hRl⟩) hK hY (Nat.le_trans hB0 hS.1) WX_nil hcs rfl hl.1 rfl (Nat.le_of_ble_eq_true rfl) dX0_rowAt_15 ?_
  refine lv_aload_n hx hb dX0_rowAt_18 rfl (lv_at hl 0 rfl) ?_
  refine x_get (v := .ref (ad 100)) hx hb hts hown hK hW xO199 in_X0 rfl 0 (by decide) q224 rfl rfl dX0_rowAt_19 ?_
  refine lv_iload_n hx hb dX0_rowAt_22 rfl (lv_at hl 1 rfl) ?_
  refine x_aald (v := some rr) hx hb hK hW (by decide) xG100 (show aldO (G 100) 8 i = some (some rr) by rw [(slN_n hj).1, ald_nI (slN_n hj).2 (by decide), hg]) dX0_rowAt_23 ?_
  exact W.aret hx hb hr (Or.inl ⟨_, rfl⟩) (Or.inr ⟨_, rfl⟩) (fun t ht _ => ⟨rfl, ht⟩) (fun q hq => by cases hq) dX0_rowAt_24
set_option maxRecDepth 100000 in
set_option maxHeartbeats 4000000 in
theorem rowAt_thr (l : Launch) (D : dd_) (s0 : State) (h0 : ∀ w ∈ lw_tbl, va_Nw w s0) (ad : Nat → Nat) (X : va_W) (base : Nat) (hAP : AP xS ad X base) (I : Nat → Int32) (A : Nat → Nat → Int32) (R : Nat → Option Nat) (G : Nat → Nat → Option Nat) (r1 r2 : Option Nat) (de : Nat) (hz : FZ base s0 r1 r2 de) (i : Int32) (j : Nat) (hj : slN 0 8 i = some j) (hg : G 100 j = none) : MetT l yX0_rowAt (ws_ yX0_rowAt cX0_rowAt 2 (some (.object "PromisePounds$Row"))) ({ frames := 5, cells := 1, slots := 7, locals := 122 }) (PcZ D s0 xS ad I A R G X base [.ref (ad 199), .int i]) (QtE (FiT D xS ad I A R G X base 1) base) 1 7 (upB base) := by
  refine MetT.ofW (cc := cX0_rowAt) (maxL := 2) (ret := (some (.object "PromisePounds$Row"))) (by decide) rfl ?_
  intro p e s m args below meth c s₁ B hml hv
  obtain ⟨⟨rfl, hK, hY, hB0, hW⟩, hq0⟩ := hv
  have hx := B.exec
  have hb := B.bytes
  have hr := B.returns
  have hts0 := atoms_spec (ws := (ws_ yX0_rowAt cX0_rowAt 2 (some (.object "PromisePounds$Row")))) B.pre
  have hts : ∀ w ∈ lw_all, w.before _ s = true := fun w h => hts0 w (List.mem_cons_of_mem _ h)
  have hown : s.vm.findClass RX0 = some m.cls := findClass_of_methodNamed B.named
  have hlocks := B.notSynchronized
  have hRf : 5 ≤ (headSpec (ws_ yX0_rowAt cX0_rowAt 2 (some (.object "PromisePounds$Row"))) ({ frames := 5, cells := 1, slots := 7, locals := 122 })).room.frames := Nat.le_refl _
  have hRl : 122 ≤ (headSpec (ws_ yX0_rowAt cX0_rowAt 2 (some (.object "PromisePounds$Row"))) ({ frames := 5, cells := 1, slots := 7, locals := 122 })).room.locals := Nat.le_refl _
  have hcs : 0 ≤ (headSpec (ws_ yX0_rowAt cX0_rowAt 2 (some (.object "PromisePounds$Row"))) ({ frames := 5, cells := 1, slots := 7, locals := 122 })).room.cells ∧ 0 ≤ (headSpec (ws_ yX0_rowAt cX0_rowAt 2 (some (.object "PromisePounds$Row"))) ({ frames := 5, cells := 1, slots := 7, locals := 122 })).room.slots := ⟨Nat.zero_le _, Nat.zero_le _⟩
  have hS : va_S (upB base) s.heap s.heap [] := va_S.rf
  have hl := lv_entry ([.ref (ad 199), .int i]) (n := 2) (Nat.le_of_ble_eq_true rfl)
  rw [lg_entry_eq]
  generalize (lg_sl ([.ref (ad 199), .int i]) ++ List.replicate (2 - (lg_sl ([.ref (ad 199), .int i])).length) Slot.unset).toArray = ls at hl ⊢
  have hl : lv_has ls 2 [(0, .ref (ad 199)), (1, .int i)] := hl
  have hout : ∀ x ∈ c.exceptionTable.toList, covers x 15 = false := by
    have h1 := B.noHandlers (hts0 _ List.mem_cons_self)
    intro x hx
    rw [Array.isEmpty_iff] at h1
    rw [h1] at hx
    cases hx
  refine lv_aload_n hx hb dX0_rowAt_0 rfl (lv_at hl 0 rfl) ?_
  refine x_get (v := .ref (ad 100)) hx hb hts hown hK hW xO199 in_X0 rfl 0 (by decide) q224 rfl rfl dX0_rowAt_1 ?_
  refine lv_iload_n hx hb dX0_rowAt_4 rfl (lv_at hl 1 rfl) ?_
  refine x_aald (v := none) hx hb hK hW (by decide) xG100 (show aldO (G 100) 8 i = some none by rw [(slN_n hj).1, ald_nI (slN_n hj).2 (by decide), hg]) dX0_rowAt_5 ?_
  refine x_ifn (tgt := 13) hx hb dX0_rowAt_6 (by decide) (fun _ => ?_) (fun cx => absurd rfl cx)
  refine lv_iconst (v := 0) hx hb dX0_rowAt_13 (by decide) ?_
  refine lv_iconst (v := 1) hx hb dX0_rowAt_14 (by decide) ?_
  exact z_prop B.notSynchronized hout hS (runST (g := F0 m 15 ls [.int 1, .int 0]) (As := [.int 0, .int 1]) (rest := []) ⟨hx, hb, hml, hown, hts⟩ (must_thr l D s0 h0 xS xwf ad X base hAP I A R G r1 r2 de hz 1) (va_cwS 2 hts (lw_S q290 q291 q76 q292) rfl rfl rfl must_ds.2 ⟨hRf, hRl⟩) ⟨PcZ_blind, pcz_at hY hK (Nat.le_trans hB0 hS.1) hW (z_low hq0 hB0 hS)⟩ rfl rfl hl.1 rfl (lv_room (m := m) (pc := 15) (ls := ls) (rest := []) (Nat.le_of_ble_eq_true rfl)) dX0_rowAt_15 ⟨Nat.le_of_ble_eq_true rfl, Nat.le_of_ble_eq_true rfl⟩) (fun _ _ h => h)
theorem rowAt_ds : yX0_rowAt.cls = RX0 ∧ yX0_rowAt.cls ≠ "java/lang/invoke/MethodHandle" ∧ yX0_rowAt.cls ≠ "java/lang/invoke/VarHandle" ∧ (parseMethodDescriptor yX0_rowAt.desc).map (fun d => d.parameters.length) = some 1 := by decide +kernel
def rw_cut (z : Int32) (a0 : Int32) : Option (Int32) :=
  ob1 (if z = 0 then ((some a0.toInt8.toInt32 : Option (Int32))) else (if z = 1 then ((some a0.toInt16.toInt32 : Option (Int32))) else ((some a0 : Option (Int32))))) fun (v1 : Int32) =>
  some v1
set_option maxRecDepth 100000 in
set_option maxHeartbeats 4000000 in
theorem rw_cut_met (l : Launch) (D : dd_) (s0 : State) (h0 : ∀ w ∈ lw_tbl, va_Nw w s0) (ad : Nat → Nat) (X : va_W) (base : Nat) (z : Int32) (b z2 : Nat) (hm : (b, Sum.inr (5, [.int z, .ref z2])) ∈ X) (a0 : Int32) (r : Int32) (hf : rw_cut z a0 = some r) : Met l yX5_cut (ws_ yX5_cut cX5_cut 2 (some .int)) ({ frames := 1, cells := 0, slots := 0, locals := 32 }) (PcX D s0 nS ad (fun _ => 0) (fun _ _ => 0) nR nG X base [.ref b, .int a0]) (QcR (some (.int r))) 0 0 (fun _ => False) := by
  refine Met.ofW (cc := cX5_cut) (maxL := 2) (ret := (some .int)) (by decide) rfl ?_
  intro p e s m args below meth c s₁ B hml hv
  obtain ⟨rfl, hK, hY, hB, hW⟩ := hv
  have hx := B.exec
  have hb := B.bytes
  have hr := B.returns
  have hts := atoms_spec (ws := (ws_ yX5_cut cX5_cut 2 (some .int))) B.pre
  have hts : ∀ w ∈ lw_all, w.before _ s = true := fun w h => hts w (List.mem_cons_of_mem _ h)
  have hown : s.vm.findClass RX5 = some m.cls := findClass_of_methodNamed B.named
  have hlocks := B.notSynchronized
  have hRf : 1 ≤ (headSpec (ws_ yX5_cut cX5_cut 2 (some .int)) ({ frames := 1, cells := 0, slots := 0, locals := 32 })).room.frames := Nat.le_refl _
  have hRl : 32 ≤ (headSpec (ws_ yX5_cut cX5_cut 2 (some .int)) ({ frames := 1, cells := 0, slots := 0, locals := 32 })).room.locals := Nat.le_refl _
  have hcs : 0 ≤ (headSpec (ws_ yX5_cut cX5_cut 2 (some .int)) ({ frames := 1, cells := 0, slots := 0, locals := 32 })).room.cells ∧ 0 ≤ (headSpec (ws_ yX5_cut cX5_cut 2 (some .int)) ({ frames := 1, cells := 0, slots := 0, locals := 32 })).room.slots := ⟨Nat.zero_le _, Nat.zero_le _⟩
  have hl := lv_entry ([.ref b, .int a0]) (n := 2) (Nat.le_of_ble_eq_true rfl)
  rw [lg_entry_eq]
  generalize (lg_sl ([.ref b, .int a0]) ++ List.replicate (2 - (lg_sl ([.ref b, .int a0])).length) Slot.unset).toArray = ls at hl ⊢
  have hl : lv_has ls 2 [(0, .ref b), (1, .int a0)] := hl
  have hf : (ob1 (if z = 0 then ((some a0.toInt8.toInt32 : Option (Int32))) else (if z = 1 then ((some a0.toInt16.toInt32 : Option (Int32))) else ((some a0 : Option (Int32))))) fun (v1 : Int32) =>
    some v1) = some r := hf
  refine lv_aload_n hx hb dX5_cut_0 rfl (lv_at hl 0 rfl) ?_
  refine x_getD (v := .int z) hx hb hts hown hK hW hm in_X5 rfl 0 (by decide) q363 (fun _ h => h) rfl dX5_cut_1 ?_
  obtain ⟨v1, hm1, hf⟩ := ob1_e hf
  refine w_cutL (nL := 2) (L := []) (pcj := 26) (st := [.int v1]) (fun ls hl => ?_) (fun K1 => ?_)
  · obtain rfl := so1 hf
    exact W.iret hx hb hr (fun t ht _ => ⟨rfl, ht⟩) (fun q hq => by cases hq) dX5_cut_26
  · refine lv_if_ne (tgt := 12) hx hb dX5_cut_4 (by decide) (fun c2 => ?_) (fun c2 => ?_)
    · rw [if_neg c2] at hm1
      refine lv_aload_n hx hb dX5_cut_12 rfl (lv_at hl 0 rfl) ?_
      refine x_getD (v := .int z) hx hb hts hown hK hW hm in_X5 rfl 0 (by decide) q363 (fun _ h => h) rfl dX5_cut_13 ?_
      refine lv_iconst (v := 1) hx hb dX5_cut_16 (by decide) ?_
      refine lv_icmp_ne (tgt := 25) hx hb dX5_cut_17 (by decide) (fun c3 => ?_) (fun c3 => ?_)
      · rw [if_neg c3] at hm1
        refine lv_iload_n hx hb dX5_cut_25 rfl (lv_at hl 1 rfl) ?_
        obtain rfl := so1 hm1
        exact K1 ls (lv_sub hl [] rfl)
      · rw [if_pos c3] at hm1
        refine lv_iload_n hx hb dX5_cut_20 rfl (lv_at hl 1 rfl) ?_
        refine lv_i2s (v := a0.toInt16.toInt32) hx hb dX5_cut_21 rfl ?_
        refine lv_goto (tgt := 26) hx hb dX5_cut_22 (by decide) ?_
        obtain rfl := so1 hm1
        exact K1 ls (lv_sub hl [] rfl)
    · rw [if_pos c2] at hm1
      refine lv_iload_n hx hb dX5_cut_7 rfl (lv_at hl 1 rfl) ?_
      refine lv_i2b (v := a0.toInt8.toInt32) hx hb dX5_cut_8 rfl ?_
      refine lv_goto (tgt := 26) hx hb dX5_cut_9 (by decide) ?_
      obtain rfl := so1 hm1
      exact K1 ls (lv_sub hl [] rfl)
theorem rw_cut_ds : yX5_cut.cls = RX5 ∧ yX5_cut.cls ≠ "java/lang/invoke/MethodHandle" ∧ yX5_cut.cls ≠ "java/lang/invoke/VarHandle" ∧ (parseMethodDescriptor yX5_cut.desc).map (fun d => d.parameters.length) = some 1 := by decide +kernel
def h_set (I : Nat → Int32) (A : Nat → Nat → Int32) (R : Nat → Option Nat) (P : Nat → Option Par) (N : Nat → Option Rw_) (T : Int32 × (Nat → Int32)) (pl n : Nat) (ks : Nat → Nat) (a0 : Int32) (a1 : Int32) (a2 : Int32) : Option (Int32 × (Nat → Int32) × (Nat → Option Rw_)) :=
  ob1 (x_isRow a0) fun (v1 : Int32) =>
  if v1 = 0 then (some ((-1000001), I, N)) else (ob1 (slN 0 8 a0) fun (j3 : Nat) =>
    if (N j3).isSome = true then (ob1 (N j3) fun (F4 : Rw_) =>
      ob1 (x_isIn a1.toInt64 0 (((nI F4.2.1) - 1).toInt64)) fun (v6 : Int32) =>
        if v6 = 0 then (some ((-1000010) - 2, upd I 110 2, N)) else (ob1 (rw_cut F4.1 a2) fun (v8 : Int32) =>
          ob1 (stO F4.2.2 F4.2.1 a1 v8) fun (f9 : Nat → Int32) =>
          ob1 (ldO f9 F4.2.1 a1) fun (v10 : Int32) =>
          ob2 (x_well I A R nG pl n ks v10) fun (v11 : Int32) (I12 : Nat → Int32) =>
          some (v11, I12, va_up N j3 (some (F4.1, F4.2.1, f9))))) else (some ((-1000010) - 1, upd I 110 1, N)))
set_option maxRecDepth 100000 in
set_option maxHeartbeats 4000000 in
theorem h_set_met (l : Launch) (D : dd_) (s0 : State) (h0 : ∀ w ∈ lw_tbl, va_Nw w s0) (ad : Nat → Nat) (base : Nat) (r1 r2 : Option Nat) (de : Nat) (hz : FZ base s0 r1 r2 de) (I : Nat → Int32) (A : Nat → Nat → Int32) (R : Nat → Option Nat) (P : Nat → Option Par) (N : Nat → Option Rw_) (T : Int32 × (Nat → Int32)) (pl n : Nat) (ks : Nat → Nat) (Y : va_W) (a0 : Int32) (a1 : Int32) (a2 : Int32) (r : Int32) (I1 : (Nat → Int32)) (N1 : (Nat → Option Rw_)) (hf : h_set I A R P N T pl n ks a0 a1 a2 = some (r, I1, N1)) : Met l yX0_set (wsW_ yX0_set cX0_set 5 (some .int) [(10, 60, 61, 71)]) ({ frames := 6, cells := 1, slots := 7, locals := 143 }) (PcH D s0 ad I A R (P, N, T, (pl, n, ks), Y) base [.ref (ad 199), .int a0, .int a1, .int a2]) (QcE (HX D ad I1 A R (P, N1, T, (pl, n, ks), Y) base) base (some (.int r))) 1 7 (upB base) := by
  refine va_MetW (cc := cX0_set) (maxL := 5) (ret := (some .int)) (by decide) rfl ?_
  intro p e s m args below meth c s₁ B hml hv
  obtain ⟨rfl, hK, hY, hB0, hH, hq0⟩ := hv
  obtain ⟨G, X, own, af, ra, ta, hF, hAP, hW⟩ := hH
  have hR := hF.reg
  have hx := B.exec
  have hb := B.bytes
  have hr := B.returns
  have hts0 := atoms_spec (ws := (wsW_ yX0_set cX0_set 5 (some .int) [(10, 60, 61, 71)])) B.pre
  have hts : ∀ w ∈ lw_all, w.before _ s = true := fun w h => hts0 w (List.mem_cons_of_mem _ h)
  have hown : s.vm.findClass RX0 = some m.cls := findClass_of_methodNamed B.named
  have hlocks := B.notSynchronized
  have htab : tabE c = [(10, 60, 61, 71)] := by
    obtain ⟨m9, meth9, c9, hn9, h1, h2, -, -, h3, -⟩ := Cond.codeWith_spec (hts0 _ List.mem_cons_self)
    cases B.named.symm.trans hn9
    cases B.method.symm.trans h1
    cases (Stand.of_body B).code.symm.trans h2
    exact h3
  have hRf : 6 ≤ (headSpec (wsW_ yX0_set cX0_set 5 (some .int) [(10, 60, 61, 71)]) ({ frames := 6, cells := 1, slots := 7, locals := 143 })).room.frames := Nat.le_refl _
  have hRl : 143 ≤ (headSpec (wsW_ yX0_set cX0_set 5 (some .int) [(10, 60, 61, 71)]) ({ frames := 6, cells := 1, slots := 7, locals := 143 })).room.locals := Nat.le_refl _
  have hcs : 0 ≤ (headSpec (wsW_ yX0_set cX0_set 5 (some .int) [(10, 60, 61, 71)]) ({ frames := 6, cells := 1, slots := 7, locals := 143 })).room.cells ∧ 0 ≤ (headSpec (wsW_ yX0_set cX0_set 5 (some .int) [(10, 60, 61, 71)]) ({ frames := 6, cells := 1, slots := 7, locals := 143 })).room.slots := ⟨Nat.zero_le _, Nat.zero_le _⟩
  have hS : va_S (upB base) s.heap s.heap [] := va_S.rf
  have hl := lv_entry ([.ref (ad 199), .int a0, .int a1, .int a2]) (n := 5) (Nat.le_of_ble_eq_true rfl)
  rw [lg_entry_eq]
  generalize (lg_sl ([.ref (ad 199), .int a0, .int a1, .int a2]) ++ List.replicate (5 - (lg_sl ([.ref (ad 199), .int a0, .int a1, .int a2])).length) Slot.unset).toArray = ls at hl ⊢
  have hl : lv_has ls 5 [(0, .ref (ad 199)), (1, .int a0), (2, .int a1), (3, .int a2)] := hl
  have hf : (ob1 (x_isRow a0) fun (v1 : Int32) =>
    if v1 = 0 then (some ((-1000001), I, N)) else (ob1 (slN 0 8 a0) fun (j3 : Nat) =>
      if (N j3).isSome = true then (ob1 (N j3) fun (F4 : Rw_) =>
        ob1 (x_isIn a1.toInt64 0 (((nI F4.2.1) - 1).toInt64)) fun (v6 : Int32) =>
          if v6 = 0 then (some ((-1000010) - 2, upd I 110 2, N)) else (ob1 (rw_cut F4.1 a2) fun (v8 : Int32) =>
            ob1 (stO F4.2.2 F4.2.1 a1 v8) fun (f9 : Nat → Int32) =>
            ob1 (ldO f9 F4.2.1 a1) fun (v10 : Int32) =>
            ob2 (x_well I A R nG pl n ks v10) fun (v11 : Int32) (I12 : Nat → Int32) =>
            some (v11, I12, va_up N j3 (some (F4.1, F4.2.1, f9))))) else (some ((-1000010) - 1, upd I 110 1, N)))) = some (r, I1, N1) := hf
  refine lv_iload_n hx hb dX0_set_0 rfl (lv_at hl 1 rfl) ?_
  obtain ⟨v1, h1, hf⟩ := ob1_e hf
  refine x_sR (ov := some (.int v1)) (D := D) (s0 := s0) (Sc := nS) (adc := ad) (Ic := (fun _ => 0)) (Ac := (fun _ _ => 0)) (Rc := nR) (Gc := nG) (Xc := []) (base := base) (As := [.int a0]) (rest := []) ⟨hx, hb, hml, hown, hts⟩ (x_isRow_met l D s0 h0 ad [] base a0 v1 h1) (va_cwS 1 hts (lw_S q281 q282 q76 q283) rfl rfl rfl x_isRow_ds.2 ⟨Nat.le_trans (Nat.le_of_ble_eq_true rfl) hRf, Nat.le_trans (Nat.le_of_ble_eq_true rfl) hRl⟩) hK hY (Nat.le_trans hB0 hS.1) WX_nil hcs rfl hl.1 rfl (Nat.le_of_ble_eq_true rfl) dX0_set_1 ?_
  refine lv_if_ne (tgt := 10) hx hb dX0_set_4 (by decide) (fun c2 => ?_) (fun c2 => ?_)
  · rw [if_neg c2] at hf
    refine lv_aload_n hx hb dX0_set_10 rfl (lv_at hl 0 rfl) ?_
    refine lv_iload_n hx hb dX0_set_11 rfl (lv_at hl 1 rfl) ?_
    obtain ⟨j3, hj3, hf⟩ := ob1_e hf
    by_cases c5 : (N j3).isSome = true
    · rw [if_pos c5] at hf
      obtain ⟨F4, hNF4, hf⟩ := ob1_e hf
      have hF4 := row_in hF (slN_n hj3).2 hNF4
      refine x_vR (ov := some (.ref (ra j3).1)) (D := D) (s0 := s0) (Sc := xS) (adc := ad) (Ic := I) (Ac := A) (Rc := R) (Gc := G) (Xc := X) (base := base) (As := [.int a0]) (rest := []) (b := ad 199) (C := RX0) ⟨hx, hb, hml, hown, hts⟩ (rowAt_ret l D s0 h0 ad X base I A R G a0 j3 hj3 _ hF4.1) (g_cwV 1 hts (lw_V q385 q387 qs3 q76 q388) rfl rfl rowAt_ds ⟨Nat.le_trans (Nat.le_of_ble_eq_true rfl) hRf, Nat.le_trans (Nat.le_of_ble_eq_true rfl) hRl⟩) (x_recv hK hW xO199 rfl) hK hY (Nat.le_trans hB0 hS.1) hW hcs rfl hl.1 rfl (Nat.le_of_ble_eq_true rfl) dX0_set_12 ?_
      refine lv_astore (lv' := [(4, .ref ((ra j3).1)), (0, .ref (ad 199)), (1, .int a0), (2, .int a1), (3, .int a2)]) hx hb dX0_set_15 hl (by decide) rfl (fun ls hl => ?_)
      refine lv_iload_n hx hb dX0_set_17 rfl (lv_at hl 3 rfl) ?_
      refine lv_i2l (v := a1.toInt64) hx hb dX0_set_18 rfl ?_
      refine lv_lconst (v := 0) hx hb dX0_set_19 (by decide) ?_
      refine lv_aload hx hb dX0_set_20 (lv_at hl 0 rfl) ?_
      refine x_getD (v := .ref ((ra j3).2)) hx hb hts hown hK hW hF4.2.2.1 in_X5 rfl 1 (by decide) q366 (fun _ h => h) rfl dX0_set_22 ?_
      refine x_alenD hx hb hK hW hF4.2.2.2 dX0_set_25 ?_
      refine lv_iconst (v := 1) hx hb dX0_set_26 (by decide) ?_
      refine lv_isub hx hb dX0_set_27 ?_
      refine lv_i2l (v := ((nI F4.2.1) - 1).toInt64) hx hb dX0_set_28 rfl ?_
      obtain ⟨v6, h6, hf⟩ := ob1_e hf
      refine x_sR (ov := some (.int v6)) (D := D) (s0 := s0) (Sc := nS) (adc := ad) (Ic := (fun _ => 0)) (Ac := (fun _ _ => 0)) (Rc := nR) (Gc := nG) (Xc := []) (base := base) (As := [.long a1.toInt64, .long 0, .long (((nI F4.2.1) - 1).toInt64)]) (rest := []) ⟨hx, hb, hml, hown, hts⟩ (x_isIn_met l D s0 h0 ad [] base a1.toInt64 0 (((nI F4.2.1) - 1).toInt64) v6 h6) (va_cwS 3 hts (lw_S q285 q286 q76 q287) rfl rfl rfl x_isIn_ds.2 ⟨Nat.le_trans (Nat.le_of_ble_eq_true rfl) hRf, Nat.le_trans (Nat.le_of_ble_eq_true rfl) hRl⟩) hK hY (Nat.le_trans hB0 hS.1) WX_nil hcs rfl hl.1 rfl (Nat.le_of_ble_eq_true rfl) dX0_set_29 ?_
      refine lv_iconst (v := 2) hx hb dX0_set_32 (by decide) ?_
      by_cases c7 : v6 = 0
      · rw [if_pos c7] at hf
        rw [c7]
        refine fi_caught (k := 2) 0 htab rfl (by decide) (by decide) hown hts hK hS hF (runST (g := F0 m 33 ls (.int 2 :: .int 0 :: [])) (As := [.int 0, .int 2]) (rest := []) ⟨hx, hb, hml, hown, hts⟩ (must_thr l D s0 h0 xS xwf ad X base hAP I A R G r1 r2 de hz 2) (va_cwS 2 hts (lw_S q290 q291 q76 q292) rfl rfl rfl must_ds.2 ⟨Nat.le_trans (Nat.le_of_ble_eq_true rfl) hRf, Nat.le_trans (Nat.le_of_ble_eq_true rfl) hRl⟩) ⟨PcZ_blind, pcz_at hY hK (Nat.le_trans hB0 hS.1) hW (z_low hq0 hB0 hS)⟩ rfl rfl hl.1 rfl (lv_room (m := m) (pc := 33) (ls := ls) (rest := []) (Nat.le_of_ble_eq_true rfl)) dX0_set_33 ⟨Nat.le_of_ble_eq_true rfl, Nat.le_of_ble_eq_true rfl⟩) (fun x9 R9 H locs X own hF hAP hW hS hm9 => ?_)
        have hcs : 0 + 1 ≤ (headSpec (wsW_ yX0_set cX0_set 5 (some .int) [(10, 60, 61, 71)]) ({ frames := 6, cells := 1, slots := 7, locals := 143 })).room.cells ∧ 0 + 7 ≤ (headSpec (wsW_ yX0_set cX0_set 5 (some .int) [(10, 60, 61, 71)]) ({ frames := 6, cells := 1, slots := 7, locals := 143 })).room.slots := ⟨Nat.le_of_ble_eq_true rfl, Nat.le_of_ble_eq_true rfl⟩
        refine lv_astore (lv' := [(4, .ref x9), (0, .ref (ad 199)), (1, .int a0), (2, .int a1), (3, .int a2)]) hx hb dX0_set_61 hl (by decide) rfl (fun ls hl => ?_)
        refine lv_aload_n hx hb dX0_set_63 rfl (lv_at hl 1 rfl) ?_
        refine lv_aload hx hb dX0_set_64 (lv_at hl 0 rfl) ?_
        refine x_vW (ov := some (.int ((-1000010) - 2))) (D := D) (s0 := s0) (Sc := xS) (adc := ad) (Ic := I) (Ac := A) (Rc := R) (Gc := G) (Xc := X) (base := base) (As := [.ref x9]) (rest := []) (Ic1 := upd I 110 2) (Ac1 := A) (Rc1 := R) (Gc1 := G) (Xc1 := X) (b := ad 199) (C := RX0) ⟨hx, hb, hml, hown, hts⟩ (found_met l D s0 h0 ad X base hAP I A R G x9 R9 2 hm9) (g_cwV 1 hts (lw_V q376 q378 qs2 q76 q379) rfl rfl found_ds ⟨Nat.le_trans (Nat.le_of_ble_eq_true rfl) hRf, Nat.le_trans (Nat.le_of_ble_eq_true rfl) hRl⟩) (x_recv hK hW xO199 rfl) hK hY (Nat.le_trans hB0 hS.1) hW hS hcs rfl hl.1 rfl (Nat.le_of_ble_eq_true rfl) dX0_set_66 (fun H locs hW hS => ?_)
        obtain ⟨rfl, rfl, rfl⟩ := so3 hf
        refine w_more (cells' := 1) (slots' := 7) (Nat.le_of_ble_eq_true rfl) (Nat.le_of_ble_eq_true rfl) ?_
        exact W.iret hx hb hr (fun t ht _ => ⟨rfl, by rw [ht]; exact ⟨G, X, own, af, ra, ta, hF, hAP, hW⟩, hS.F ht⟩) hS.2.2 dX0_set_69
      · rw [if_neg c7] at hf
        refine x_sR (ov := none) (D := D) (s0 := s0) (Sc := nS) (adc := ad) (Ic := fun _ => 0) (Ac := fun _ _ => 0) (Rc := nR) (Gc := nG) (Xc := []) (base := base) (As := [.int v6, .int 2]) (rest := []) ⟨hx, hb, hml, hown, hts⟩ (must_ret l D s0 ad base v6 2 c7) (va_cwS 2 hts (lw_S q290 q291 q76 q292) rfl rfl rfl must_ds.2 ⟨Nat.le_trans (Nat.le_of_ble_eq_true rfl) hRf, Nat.le_trans (Nat.le_of_ble_eq_true rfl) hRl⟩) hK hY (Nat.le_trans hB0 hS.1) WX_nil hcs rfl hl.1 rfl (Nat.le_of_ble_eq_true rfl) dX0_set_33 ?_
        refine lv_aload hx hb dX0_set_36 (lv_at hl 0 rfl) ?_
        refine x_getD (v := .ref ((ra j3).2)) hx hb hts hown hK hW hF4.2.2.1 in_X5 rfl 1 (by decide) q366 (fun _ h => h) rfl dX0_set_38 ?_
        refine lv_iload_n hx hb dX0_set_41 rfl (lv_at hl 3 rfl) ?_
        refine lv_aload hx hb dX0_set_42 (lv_at hl 0 rfl) ?_
        refine lv_iload_n hx hb dX0_set_44 rfl (lv_at hl 4 rfl) ?_
        obtain ⟨v8, hv8, hf⟩ := ob1_e hf
        refine x_vR (ov := some (.int v8)) (D := D) (s0 := s0) (Sc := nS) (adc := ad) (Ic := fun _ => 0) (Ac := fun _ _ => 0) (Rc := nR) (Gc := nG) (Xc := wl D xS ad I A R G ++ X) (base := base) (As := [.int a2]) (rest := [.int a1, .ref ((ra j3).2)]) (b := (ra j3).1) (C := RX5) ⟨hx, hb, hml, hown, hts⟩ (rw_cut_met l D s0 h0 ad (wl D xS ad I A R G ++ X) base F4.1 (ra j3).1 _ (List.mem_append_right _ hF4.2.2.1) a2 v8 hv8) (g_cwV 1 hts (lw_V q389 q390 q391 q86 q392) rfl rfl rw_cut_ds ⟨Nat.le_trans (Nat.le_of_ble_eq_true rfl) hRf, Nat.le_trans (Nat.le_of_ble_eq_true rfl) hRl⟩) (x_recvD (ci := 5) hK hW hF4.2.2.1 rfl) hK hY (Nat.le_trans hB0 hS.1) hW hcs rfl hl.1 rfl (Nat.le_of_ble_eq_true rfl) dX0_set_45 ?_
        obtain ⟨f9, hf9, hf⟩ := ob1_e hf
        refine row_iast hx hb hK hF hAP hW hS (slN_n hj3).2 hNF4 hf9 dX0_set_48 (fun H locs X hF hAP hW hS => ?_)
        have hR := hF.reg
        have hF4 := row_in hF (slN_n hj3).2 (va_up_self _ _ _)
        refine lv_aload_n hx hb dX0_set_49 rfl (lv_at hl 1 rfl) ?_
        refine lv_aload hx hb dX0_set_50 (lv_at hl 0 rfl) ?_
        refine x_getD (v := .ref ((ra j3).2)) hx hb hts hown hK hW hF4.2.2.1 in_X5 rfl 1 (by decide) q366 (fun _ h => h) rfl dX0_set_52 ?_
        refine lv_iload_n hx hb dX0_set_55 rfl (lv_at hl 3 rfl) ?_
        obtain ⟨v10, hv10, hf⟩ := ob1_e hf
        refine x_ialdD hx hb hK hW hF4.2.2.2 hv10 dX0_set_56 ?_
        obtain ⟨v11, I12, h12, hf⟩ := ob2_e hf
        refine x_vW (ov := some (.int v11)) (D := D) (s0 := s0) (Sc := xS) (adc := ad) (Ic := I) (Ac := A) (Rc := R) (Gc := G) (Xc := X) (base := base) (As := [.int v10]) (rest := []) (Ic1 := I12) (Ac1 := A) (Rc1 := R) (Gc1 := G) (Xc1 := X) (b := ad 199) (C := RX0) ⟨hx, hb, hml, hown, hts⟩ (x_well_met l D s0 h0 ad X base hAP I A R G pl n ks hR v10 v11 I12 h12) (g_cwV 1 hts (lw_V q372 q374 qs1 q76 q375) rfl rfl x_well_ds ⟨Nat.le_trans (Nat.le_of_ble_eq_true rfl) hRf, Nat.le_trans (Nat.le_of_ble_eq_true rfl) hRl⟩) (x_recv hK hW xO199 rfl) hK hY (Nat.le_trans hB0 hS.1) hW hS hcs rfl hl.1 rfl (Nat.le_of_ble_eq_true rfl) dX0_set_57 (fun H locs hW hS => ?_)
        obtain ⟨rfl, rfl, rfl⟩ := so3 hf
        refine w_more (cells' := 1) (slots' := 7) (Nat.le_of_ble_eq_true rfl) (Nat.le_of_ble_eq_true rfl) ?_
        exact W.iret hx hb hr (fun t ht _ => ⟨rfl, by rw [ht]; exact ⟨G, X, own, af, ra, ta, hF, hAP, hW⟩, hS.F ht⟩) hS.2.2 dX0_set_60
    · rw [if_neg c5] at hf
      have hN9 : N j3 = none := Option.not_isSome_iff_eq_none.mp c5
      refine fi_caught (k := 1) 0 htab rfl (by decide) (by decide) hown hts hK hS hF (runVT (g := F0 m 12 ls (.int a0 :: .ref (ad 199) :: [])) (b := ad 199) (As := [.int a0]) (rest := []) (C := RX0) ⟨hx, hb, hml, hown, hts⟩ (rowAt_thr l D s0 h0 ad X base hAP I A R G r1 r2 de hz a0 j3 hj3 ((hF.2.1 j3 (slN_n hj3).2).1 hN9)) (cwV 1 hts (lw_V q385 q387 qs3 q76 q388) rfl rfl rfl rowAt_ds ⟨Nat.le_trans (Nat.le_of_ble_eq_true rfl) hRf, Nat.le_trans (Nat.le_of_ble_eq_true rfl) hRl⟩) ⟨PcZ_blind, x_recv hK hW xO199 rfl, pcz_at hY hK (Nat.le_trans hB0 hS.1) hW (z_low hq0 hB0 hS)⟩ rfl rfl hl.1 rfl (lv_room (m := m) (pc := 12) (ls := ls) (rest := []) (Nat.le_of_ble_eq_true rfl)) dX0_set_12 ⟨Nat.le_of_ble_eq_true rfl, Nat.le_of_ble_eq_true rfl⟩) (fun x9 R9 H locs X own hF hAP hW hS hm9 => ?_)
      have hcs : 0 + 1 ≤ (headSpec (wsW_ yX0_set cX0_set 5 (some .int) [(10, 60, 61, 71)]) ({ frames := 6, cells := 1, slots := 7, locals := 143 })).room.cells ∧ 0 + 7 ≤ (headSpec (wsW_ yX0_set cX0_set 5 (some .int) [(10, 60, 61, 71)]) ({ frames := 6, cells := 1, slots := 7, locals := 143 })).room.slots := ⟨Nat.le_of_ble_eq_true rfl, Nat.le_of_ble_eq_true rfl⟩
      refine lv_astore (lv' := [(4, .ref x9), (0, .ref (ad 199)), (1, .int a0), (2, .int a1), (3, .int a2)]) hx hb dX0_set_61 hl (by decide) rfl (fun ls hl => ?_)
      refine lv_aload_n hx hb dX0_set_63 rfl (lv_at hl 1 rfl) ?_
      refine lv_aload hx hb dX0_set_64 (lv_at hl 0 rfl) ?_
      refine x_vW (ov := some (.int ((-1000010) - 1))) (D := D) (s0 := s0) (Sc := xS) (adc := ad) (Ic := I) (Ac := A) (Rc := R) (Gc := G) (Xc := X) (base := base) (As := [.ref x9]) (rest := []) (Ic1 := upd I 110 1) (Ac1 := A) (Rc1 := R) (Gc1 := G) (Xc1 := X) (b := ad 199) (C := RX0) ⟨hx, hb, hml, hown, hts⟩ (found_met l D s0 h0 ad X base hAP I A R G x9 R9 1 hm9) (g_cwV 1 hts (lw_V q376 q378 qs2 q76 q379) rfl rfl found_ds ⟨Nat.le_trans (Nat.le_of_ble_eq_true rfl) hRf, Nat.le_trans (Nat.le_of_ble_eq_true rfl) hRl⟩) (x_recv hK hW xO199 rfl) hK hY (Nat.le_trans hB0 hS.1) hW hS hcs rfl hl.1 rfl (Nat.le_of_ble_eq_true rfl) dX0_set_66 (fun H locs hW hS => ?_)
      obtain ⟨rfl, rfl, rfl⟩ := so3 hf
      refine w_more (cells' := 1) (slots' := 7) (Nat.le_of_ble_eq_true rfl) (Nat.le_of_ble_eq_true rfl) ?_
      exact W.iret hx hb hr (fun t ht _ => ⟨rfl, by rw [ht]; exact ⟨G, X, own, af, ra, ta, hF, hAP, hW⟩, hS.F ht⟩) hS.2.2 dX0_set_69
  · rw [if_pos c2] at hf
    refine lv_ldc (v := (-1000001)) hx hb hown (hts _ q289) dX0_set_7 ?_
    obtain ⟨rfl, rfl, rfl⟩ := so3 hf
    refine w_more (cells' := 1) (slots' := 7) (Nat.le_of_ble_eq_true rfl) (Nat.le_of_ble_eq_true rfl) ?_
    exact W.iret hx hb hr (fun t ht _ => ⟨rfl, by rw [ht]; exact ⟨G, X, own, af, ra, ta, hF, hAP, hW⟩, hS.F ht⟩) hS.2.2 dX0_set_9
theorem h_set_ds : yX0_set.cls = RX0 ∧ yX0_set.cls ≠ "java/lang/invoke/MethodHandle" ∧ yX0_set.cls ≠ "java/lang/invoke/VarHandle" ∧ (parseMethodDescriptor yX0_set.desc).map (fun d => d.parameters.length) = some 3 := by decide +kernel
def h_drop (I : Nat → Int32) (A : Nat → Nat → Int32) (R : Nat → Option Nat) (P : Nat → Option Par) (N : Nat → Option Rw_) (T : Int32 × (Nat → Int32)) (pl n : Nat) (ks : Nat → Nat) (a0 : Int32) : Option (Int32 × (Nat → Int32) × (Nat → Option Rw_)) :=
  ob1 (x_isRow a0) fun (v1 : Int32) =>
  if v1 = 0 then (some ((-1000001), I, N)) else (ob1 (slN 0 8 a0) fun (j3 : Nat) =>
    if (N j3).isSome = true then (ob1 (N j3) fun (F4 : Rw_) =>
      ob2 (x_well I A R nG pl n ks (nI F4.2.1)) fun (v6 : Int32) (I7 : Nat → Int32) =>
        some (v6, I7, va_up N j3 none)) else (some ((-1000010) - 1, upd I 110 1, N)))
set_option maxRecDepth 100000 in
set_option maxHeartbeats 4000000 in
theorem h_drop_met (l : Launch) (D : dd_) (s0 : State) (h0 : ∀ w ∈ lw_tbl, va_Nw w s0) (ad : Nat → Nat) (base : Nat) (r1 r2 : Option Nat) (de : Nat) (hz : FZ base s0 r1 r2 de) (I : Nat → Int32) (A : Nat → Nat → Int32) (R : Nat → Option Nat) (P : Nat → Option Par) (N : Nat → Option Rw_) (T : Int32 × (Nat → Int32)) (pl n : Nat) (ks : Nat → Nat) (Y : va_W) (a0 : Int32) (r : Int32) (I1 : (Nat → Int32)) (N1 : (Nat → Option Rw_)) (hf : h_drop I A R P N T pl n ks a0 = some (r, I1, N1)) : Met l yX0_drop (wsW_ yX0_drop cX0_drop 3 (some .int) [(10, 32, 33, 71)]) ({ frames := 6, cells := 1, slots := 7, locals := 143 }) (PcH D s0 ad I A R (P, N, T, (pl, n, ks), Y) base [.ref (ad 199), .int a0]) (QcE (HX D ad I1 A R (P, N1, T, (pl, n, ks), Y) base) base (some (.int r))) 1 7 (upB base) := by
  refine va_MetW (cc := cX0_drop) (maxL := 3) (ret := (some .int)) (by decide) rfl ?_
  intro p e s m args below meth c s₁ B hml hv
  obtain ⟨rfl, hK, hY, hB0, hH, hq0⟩ := hv
  obtain ⟨G, X, own, af, ra, ta, hF, hAP, hW⟩ := hH
  have hR := hF.reg
  have hx := B.exec
  have hb := B.bytes
  have hr := B.returns
  have hts0 := atoms_spec (ws := (wsW_ yX0_drop cX0_drop 3 (some .int) [(10, 32, 33, 71)])) B.pre
  have hts : ∀ w ∈ lw_all, w.before _ s = true := fun w h => hts0 w (List.mem_cons_of_mem _ h)
  have hown : s.vm.findClass RX0 = some m.cls := findClass_of_methodNamed B.named
  have hlocks := B.notSynchronized
  have htab : tabE c = [(10, 32, 33, 71)] := by
    obtain ⟨m9, meth9, c9, hn9, h1, h2, -, -, h3, -⟩ := Cond.codeWith_spec (hts0 _ List.mem_cons_self)
    cases B.named.symm.trans hn9
    cases B.method.symm.trans h1
    cases (Stand.of_body B).code.symm.trans h2
    exact h3
  have hRf : 6 ≤ (headSpec (wsW_ yX0_drop cX0_drop 3 (some .int) [(10, 32, 33, 71)]) ({ frames := 6, cells := 1, slots := 7, locals := 143 })).room.frames := Nat.le_refl _
  have hRl : 143 ≤ (headSpec (wsW_ yX0_drop cX0_drop 3 (some .int) [(10, 32, 33, 71)]) ({ frames := 6, cells := 1, slots := 7, locals := 143 })).room.locals := Nat.le_refl _
  have hcs : 0 ≤ (headSpec (wsW_ yX0_drop cX0_drop 3 (some .int) [(10, 32, 33, 71)]) ({ frames := 6, cells := 1, slots := 7, locals := 143 })).room.cells ∧ 0 ≤ (headSpec (wsW_ yX0_drop cX0_drop 3 (some .int) [(10, 32, 33, 71)]) ({ frames := 6, cells := 1, slots := 7, locals := 143 })).room.slots := ⟨Nat.zero_le _, Nat.zero_le _⟩
  have hS : va_S (upB base) s.heap s.heap [] := va_S.rf
  have hl := lv_entry ([.ref (ad 199), .int a0]) (n := 3) (Nat.le_of_ble_eq_true rfl)
  rw [lg_entry_eq]
  generalize (lg_sl ([.ref (ad 199), .int a0]) ++ List.replicate (3 - (lg_sl ([.ref (ad 199), .int a0])).length) Slot.unset).toArray = ls at hl ⊢
  have hl : lv_has ls 3 [(0, .ref (ad 199)), (1, .int a0)] := hl
  have hf : (ob1 (x_isRow a0) fun (v1 : Int32) =>
    if v1 = 0 then (some ((-1000001), I, N)) else (ob1 (slN 0 8 a0) fun (j3 : Nat) =>
      if (N j3).isSome = true then (ob1 (N j3) fun (F4 : Rw_) =>
        ob2 (x_well I A R nG pl n ks (nI F4.2.1)) fun (v6 : Int32) (I7 : Nat → Int32) =>
          some (v6, I7, va_up N j3 none)) else (some ((-1000010) - 1, upd I 110 1, N)))) = some (r, I1, N1) := hf
  refine lv_iload_n hx hb dX0_drop_0 rfl (lv_at hl 1 rfl) ?_
  obtain ⟨v1, h1, hf⟩ := ob1_e hf
  refine x_sR (ov := some (.int v1)) (D := D) (s0 := s0) (Sc := nS) (adc := ad) (Ic := (fun _ => 0)) (Ac := (fun _ _ => 0)) (Rc := nR) (Gc := nG) (Xc := []) (base := base) (As := [.int a0]) (rest := []) ⟨hx, hb, hml, hown, hts⟩ (x_isRow_met l D s0 h0 ad [] base a0 v1 h1) (va_cwS 1 hts (lw_S q281 q282 q76 q283) rfl rfl rfl x_isRow_ds.2 ⟨Nat.le_trans (Nat.le_of_ble_eq_true rfl) hRf, Nat.le_trans (Nat.le_of_ble_eq_true rfl) hRl⟩) hK hY (Nat.le_trans hB0 hS.1) WX_nil hcs rfl hl.1 rfl (Nat.le_of_ble_eq_true rfl) dX0_drop_1 ?_
  refine lv_if_ne (tgt := 10) hx hb dX0_drop_4 (by decide) (fun c2 => ?_) (fun c2 => ?_)
  · rw [if_neg c2] at hf
    refine lv_aload_n hx hb dX0_drop_10 rfl (lv_at hl 0 rfl) ?_
    refine lv_iload_n hx hb dX0_drop_11 rfl (lv_at hl 1 rfl) ?_
    obtain ⟨j3, hj3, hf⟩ := ob1_e hf
    by_cases c5 : (N j3).isSome = true
    · rw [if_pos c5] at hf
      obtain ⟨F4, hNF4, hf⟩ := ob1_e hf
      have hF4 := row_in hF (slN_n hj3).2 hNF4
      refine x_vR (ov := some (.ref (ra j3).1)) (D := D) (s0 := s0) (Sc := xS) (adc := ad) (Ic := I) (Ac := A) (Rc := R) (Gc := G) (Xc := X) (base := base) (As := [.int a0]) (rest := []) (b := ad 199) (C := RX0) ⟨hx, hb, hml, hown, hts⟩ (rowAt_ret l D s0 h0 ad X base I A R G a0 j3 hj3 _ hF4.1) (g_cwV 1 hts (lw_V q385 q387 qs3 q76 q388) rfl rfl rowAt_ds ⟨Nat.le_trans (Nat.le_of_ble_eq_true rfl) hRf, Nat.le_trans (Nat.le_of_ble_eq_true rfl) hRl⟩) (x_recv hK hW xO199 rfl) hK hY (Nat.le_trans hB0 hS.1) hW hcs rfl hl.1 rfl (Nat.le_of_ble_eq_true rfl) dX0_drop_12 ?_
      refine x_getD (v := .ref ((ra j3).2)) hx hb hts hown hK hW hF4.2.2.1 in_X5 rfl 1 (by decide) q366 (fun _ h => h) rfl dX0_drop_15 ?_
      refine x_alenD hx hb hK hW hF4.2.2.2 dX0_drop_18 ?_
      refine lv_istore_n (lv' := [(2, .int (nI F4.2.1)), (0, .ref (ad 199)), (1, .int a0)]) hx hb dX0_drop_19 rfl hl (by decide) rfl (fun ls hl => ?_)
      refine lv_aload_n hx hb dX0_drop_20 rfl (lv_at hl 1 rfl) ?_
      refine x_get (v := .ref (ad 100)) hx hb hts hown hK hW xO199 in_X0 rfl 0 (by decide) q224 rfl rfl dX0_drop_21 ?_
      refine lv_iload_n hx hb dX0_drop_24 rfl (lv_at hl 2 rfl) ?_
      refine lv_null hx hb dX0_drop_25 ?_
      refine x_aastN hx hb hK xwf hAP hW hS (by decide) xG100 (slN_e hj3).1 dX0_drop_26 (fun H locs hW hS => ?_)
      obtain ⟨G, ra, hF, hW⟩ : ∃ (G : Nat → Nat → Option Nat) (ra : Nat → Nat × Nat), XF D own af ra ta (P, va_up N j3 none, T, (pl, n, ks), Y) R G X ∧ WX D xS ad I A R G X H := ⟨_, _, hF.rowPut (r := none) (rr := (0, 0)) (fun q hq _ => hq) (slN_n hj3).2 (fun k hk => by
        rw [(slN_n hj3).1, nI_clamp (by have := (slN_n hj3).2; omega), va_up_self]
        by_cases ek : k = j3
        · rw [if_pos ek, ek, va_up_self]; rfl
        · rw [if_neg ek, va_up_ne _ _ ek]) (va_up_ne _ _ (by decide)) (va_up_ne _ _ (by decide)) (fun F hF => by cases hF), hW⟩
      refine lv_aload_n hx hb dX0_drop_27 rfl (lv_at hl 1 rfl) ?_
      refine lv_iload_n hx hb dX0_drop_28 rfl (lv_at hl 0 rfl) ?_
      obtain ⟨v6, I7, h7, hf⟩ := ob2_e hf
      refine x_vW (ov := some (.int v6)) (D := D) (s0 := s0) (Sc := xS) (adc := ad) (Ic := I) (Ac := A) (Rc := R) (Gc := G) (Xc := X) (base := base) (As := [.int (nI F4.2.1)]) (rest := []) (Ic1 := I7) (Ac1 := A) (Rc1 := R) (Gc1 := G) (Xc1 := X) (b := ad 199) (C := RX0) ⟨hx, hb, hml, hown, hts⟩ (x_well_met l D s0 h0 ad X base hAP I A R G pl n ks hR (nI F4.2.1) v6 I7 h7) (g_cwV 1 hts (lw_V q372 q374 qs1 q76 q375) rfl rfl x_well_ds ⟨Nat.le_trans (Nat.le_of_ble_eq_true rfl) hRf, Nat.le_trans (Nat.le_of_ble_eq_true rfl) hRl⟩) (x_recv hK hW xO199 rfl) hK hY (Nat.le_trans hB0 hS.1) hW hS hcs rfl hl.1 rfl (Nat.le_of_ble_eq_true rfl) dX0_drop_29 (fun H locs hW hS => ?_)
      obtain ⟨rfl, rfl, rfl⟩ := so3 hf
      refine w_more (cells' := 1) (slots' := 7) (Nat.le_of_ble_eq_true rfl) (Nat.le_of_ble_eq_true rfl) ?_
      exact W.iret hx hb hr (fun t ht _ => ⟨rfl, by rw [ht]; exact ⟨G, X, own, af, ra, ta, hF, hAP, hW⟩, hS.F ht⟩) hS.2.2 dX0_drop_32
    · rw [if_neg c5] at hf
      have hN9 : N j3 = none := Option.not_isSome_iff_eq_none.mp c5
      refine fi_caught (k := 1) 0 htab rfl (by decide) (by decide) hown hts hK hS hF (runVT (g := F0 m 12 ls (.int a0 :: .ref (ad 199) :: [])) (b := ad 199) (As := [.int a0]) (rest := []) (C := RX0) ⟨hx, hb, hml, hown, hts⟩ (rowAt_thr l D s0 h0 ad X base hAP I A R G r1 r2 de hz a0 j3 hj3 ((hF.2.1 j3 (slN_n hj3).2).1 hN9)) (cwV 1 hts (lw_V q385 q387 qs3 q76 q388) rfl rfl rfl rowAt_ds ⟨Nat.le_trans (Nat.le_of_ble_eq_true rfl) hRf, Nat.le_trans (Nat.le_of_ble_eq_true rfl) hRl⟩) ⟨PcZ_blind, x_recv hK hW xO199 rfl, pcz_at hY hK (Nat.le_trans hB0 hS.1) hW (z_low hq0 hB0 hS)⟩ rfl rfl hl.1 rfl (lv_room (m := m) (pc := 12) (ls := ls) (rest := []) (Nat.le_of_ble_eq_true rfl)) dX0_drop_12 ⟨Nat.le_of_ble_eq_true rfl, Nat.le_of_ble_eq_true rfl⟩) (fun x9 R9 H locs X own hF hAP hW hS hm9 => ?_)
      have hcs : 0 + 1 ≤ (headSpec (wsW_ yX0_drop cX0_drop 3 (some .int) [(10, 32, 33, 71)]) ({ frames := 6, cells := 1, slots := 7, locals := 143 })).room.cells ∧ 0 + 7 ≤ (headSpec (wsW_ yX0_drop cX0_drop 3 (some .int) [(10, 32, 33, 71)]) ({ frames := 6, cells := 1, slots := 7, locals := 143 })).room.slots := ⟨Nat.le_of_ble_eq_true rfl, Nat.le_of_ble_eq_true rfl⟩
      refine lv_astore_n (lv' := [(2, .ref x9), (0, .ref (ad 199)), (1, .int a0)]) hx hb dX0_drop_33 rfl hl (by decide) rfl (fun ls hl => ?_)
      refine lv_aload_n hx hb dX0_drop_34 rfl (lv_at hl 1 rfl) ?_
      refine lv_aload_n hx hb dX0_drop_35 rfl (lv_at hl 0 rfl) ?_
      refine x_vW (ov := some (.int ((-1000010) - 1))) (D := D) (s0 := s0) (Sc := xS) (adc := ad) (Ic := I) (Ac := A) (Rc := R) (Gc := G) (Xc := X) (base := base) (As := [.ref x9]) (rest := []) (Ic1 := upd I 110 1) (Ac1 := A) (Rc1 := R) (Gc1 := G) (Xc1 := X) (b := ad 199) (C := RX0) ⟨hx, hb, hml, hown, hts⟩ (found_met l D s0 h0 ad X base hAP I A R G x9 R9 1 hm9) (g_cwV 1 hts (lw_V q376 q378 qs2 q76 q379) rfl rfl found_ds ⟨Nat.le_trans (Nat.le_of_ble_eq_true rfl) hRf, Nat.le_trans (Nat.le_of_ble_eq_true rfl) hRl⟩) (x_recv hK hW xO199 rfl) hK hY (Nat.le_trans hB0 hS.1) hW hS hcs rfl hl.1 rfl (Nat.le_of_ble_eq_true rfl) dX0_drop_36 (fun H locs hW hS => ?_)
      obtain ⟨rfl, rfl, rfl⟩ := so3 hf
      refine w_more (cells' := 1) (slots' := 7) (Nat.le_of_ble_eq_true rfl) (Nat.le_of_ble_eq_true rfl) ?_
      exact W.iret hx hb hr (fun t ht _ => ⟨rfl, by rw [ht]; exact ⟨G, X, own, af, ra, ta, hF, hAP, hW⟩, hS.F ht⟩) hS.2.2 dX0_drop_39
  · rw [if_pos c2] at hf
    refine lv_ldc (v := (-1000001)) hx hb hown (hts _ q289) dX0_drop_7 ?_
    obtain ⟨rfl, rfl, rfl⟩ := so3 hf
    refine w_more (cells' := 1) (slots' := 7) (Nat.le_of_ble_eq_true rfl) (Nat.le_of_ble_eq_true rfl) ?_
    exact W.iret hx hb hr (fun t ht _ => ⟨rfl, by rw [ht]; exact ⟨G, X, own, af, ra, ta, hF, hAP, hW⟩, hS.F ht⟩) hS.2.2 dX0_drop_9
theorem h_drop_ds : yX0_drop.cls = RX0 ∧ yX0_drop.cls ≠ "java/lang/invoke/MethodHandle" ∧ yX0_drop.cls ≠ "java/lang/invoke/VarHandle" ∧ (parseMethodDescriptor yX0_drop.desc).map (fun d => d.parameters.length) = some 1 := by decide +kernel
def h_row (I : Nat → Int32) (A : Nat → Nat → Int32) (R : Nat → Option Nat) (P : Nat → Option Par) (N : Nat → Option Rw_) (T : Int32 × (Nat → Int32)) (pl n : Nat) (ks : Nat → Nat) (a0 : Int32) (a1 : Int32) (a2 : Int32) : Option (Int32 × (Nat → Int32) × (Nat → Option Rw_)) :=
  ob1 (x_isRow a0) fun (v1 : Int32) =>
  if v1 = 0 then (some ((-1000001), I, N)) else (ob1 (x_isIn a1.toInt64 0 2) fun (v3 : Int32) =>
    if v3 = 0 then (some ((-1000001), I, N)) else (if a2 ≤ 40 then (ob1 (if a2 < 0 then ((some 0 : Option (Int32))) else ((some 1 : Option (Int32)))) fun (v6 : Int32) =>
        if v6 = 0 then (some ((-1000010) - 4, upd I 110 4, N)) else (ob1 (slN 0 8 a0) fun (j9 : Nat) =>
          ob1 (lenO a2) fun (j10 : Nat) =>
          ob2 (x_well I A R nG pl n ks a2) fun (v11 : Int32) (I12 : Nat → Int32) =>
          some (v11, I12, va_up N j9 (some (a1, j10, fun _ => 0))))) else (some ((-1000001), I, N))))
set_option maxRecDepth 100000 in
set_option maxHeartbeats 4000000 in
theorem h_row_met (l : Launch) (D : dd_) (s0 : State) (h0 : ∀ w ∈ lw_tbl, va_Nw w s0) (ad : Nat → Nat) (base : Nat) (r1 r2 : Option Nat) (de : Nat) (hz : FZ base s0 r1 r2 de) (I : Nat → Int32) (A : Nat → Nat → Int32) (R : Nat → Option Nat) (P : Nat → Option Par) (N : Nat → Option Rw_) (T : Int32 × (Nat → Int32)) (pl n : Nat) (ks : Nat → Nat) (Y : va_W) (a0 : Int32) (a1 : Int32) (a2 : Int32) (r : Int32) (I1 : (Nat → Int32)) (N1 : (Nat → Option Rw_)) (hf : h_row I A R P N T pl n ks a0 a1 a2 = some (r, I1, N1)) : Met l yX0_row (wsW_ yX0_row cX0_row 5 (some .int) [(28, 61, 62, 71)]) ({ frames := 6, cells := 2, slots := 44, locals := 143 }) (PcH D s0 ad I A R (P, N, T, (pl, n, ks), Y) base [.ref (ad 199), .int a0, .int a1, .int a2]) (QcE (HX D ad I1 A R (P, N1, T, (pl, n, ks), Y) base) base (some (.int r))) 2 44 (upB base) := by
  refine va_MetW (cc := cX0_row) (maxL := 5) (ret := (some .int)) (by decide) rfl ?_
  intro p e s m args below meth c s₁ B hml hv
  obtain ⟨rfl, hK, hY, hB0, hH, hq0⟩ := hv
  obtain ⟨G, X, own, af, ra, ta, hF, hAP, hW⟩ := hH
  have hR := hF.reg
  have hx := B.exec
  have hb := B.bytes
  have hr := B.returns
  have hts0 := atoms_spec (ws := (wsW_ yX0_row cX0_row 5 (some .int) [(28, 61, 62, 71)])) B.pre
  have hts : ∀ w ∈ lw_all, w.before _ s = true := fun w h => hts0 w (List.mem_cons_of_mem _ h)
  have hown : s.vm.findClass RX0 = some m.cls := findClass_of_methodNamed B.named
  have hlocks := B.notSynchronized
  have htab : tabE c = [(28, 61, 62, 71)] := by
    obtain ⟨m9, meth9, c9, hn9, h1, h2, -, -, h3, -⟩ := Cond.codeWith_spec (hts0 _ List.mem_cons_self)
    cases B.named.symm.trans hn9
    cases B.method.symm.trans h1
    cases (Stand.of_body B).code.symm.trans h2
    exact h3
  have hRf : 6 ≤ (headSpec (wsW_ yX0_row cX0_row 5 (some .int) [(28, 61, 62, 71)]) ({ frames := 6, cells := 2, slots := 44, locals := 143 })).room.frames := Nat.le_refl _
  have hRl : 143 ≤ (headSpec (wsW_ yX0_row cX0_row 5 (some .int) [(28, 61, 62, 71)]) ({ frames := 6, cells := 2, slots := 44, locals := 143 })).room.locals := Nat.le_refl _
  have hcs : 0 ≤ (headSpec (wsW_ yX0_row cX0_row 5 (some .int) [(28, 61, 62, 71)]) ({ frames := 6, cells := 2, slots := 44, locals := 143 })).room.cells ∧ 0 ≤ (headSpec (wsW_ yX0_row cX0_row 5 (some .int) [(28, 61, 62, 71)]) ({ frames := 6, cells := 2, slots := 44, locals := 143 })).room.slots := ⟨Nat.zero_le _, Nat.zero_le _⟩
  have hS : va_S (upB base) s.heap s.heap [] := va_S.rf
  have hl := lv_entry ([.ref (ad 199), .int a0, .int a1, .int a2]) (n := 5) (Nat.le_of_ble_eq_true rfl)
  rw [lg_entry_eq]
  generalize (lg_sl ([.ref (ad 199), .int a0, .int a1, .int a2]) ++ List.replicate (5 - (lg_sl ([.ref (ad 199), .int a0, .int a1, .int a2])).length) Slot.unset).toArray = ls at hl ⊢
  have hl : lv_has ls 5 [(0, .ref (ad 199)), (1, .int a0), (2, .int a1), (3, .int a2)] := hl
  have hf : (ob1 (x_isRow a0) fun (v1 : Int32) =>
    if v1 = 0 then (some ((-1000001), I, N)) else (ob1 (x_isIn a1.toInt64 0 2) fun (v3 : Int32) =>
      if v3 = 0 then (some ((-1000001), I, N)) else (if a2 ≤ 40 then (ob1 (if a2 < 0 then ((some 0 : Option (Int32))) else ((some 1 : Option (Int32)))) fun (v6 : Int32) =>
          if v6 = 0 then (some ((-1000010) - 4, upd I 110 4, N)) else (ob1 (slN 0 8 a0) fun (j9 : Nat) =>
            ob1 (lenO a2) fun (j10 : Nat) =>
            ob2 (x_well I A R nG pl n ks a2) fun (v11 : Int32) (I12 : Nat → Int32) =>
            some (v11, I12, va_up N j9 (some (a1, j10, fun _ => 0))))) else (some ((-1000001), I, N))))) = some (r, I1, N1) := hf
  refine lv_iload_n hx hb dX0_row_0 rfl (lv_at hl 1 rfl) ?_
  obtain ⟨v1, h1, hf⟩ := ob1_e hf
  refine x_sR (ov := some (.int v1)) (D := D) (s0 := s0) (Sc := nS) (adc := ad) (Ic := (fun _ => 0)) (Ac := (fun _ _ => 0)) (Rc := nR) (Gc := nG) (Xc := []) (base := base) (As := [.int a0]) (rest := []) ⟨hx, hb, hml, hown, hts⟩ (x_isRow_met l D s0 h0 ad [] base a0 v1 h1) (va_cwS 1 hts (lw_S q281 q282 q76 q283) rfl rfl rfl x_isRow_ds.2 ⟨Nat.le_trans (Nat.le_of_ble_eq_true rfl) hRf, Nat.le_trans (Nat.le_of_ble_eq_true rfl) hRl⟩) hK hY (Nat.le_trans hB0 hS.1) WX_nil hcs rfl hl.1 rfl (Nat.le_of_ble_eq_true rfl) dX0_row_1 ?_
  refine lv_if_eq (tgt := 25) hx hb dX0_row_4 (by decide) (fun c2 => ?_) (fun c2 => ?_)
  · rw [if_pos c2] at hf
    refine lv_ldc (v := (-1000001)) hx hb hown (hts _ q289) dX0_row_25 ?_
    obtain ⟨rfl, rfl, rfl⟩ := so3 hf
    refine w_more (cells' := 2) (slots' := 44) (Nat.le_of_ble_eq_true rfl) (Nat.le_of_ble_eq_true rfl) ?_
    exact W.iret hx hb hr (fun t ht _ => ⟨rfl, by rw [ht]; exact ⟨G, X, own, af, ra, ta, hF, hAP, hW⟩, hS.F ht⟩) hS.2.2 dX0_row_27
  · rw [if_neg c2] at hf
    refine lv_iload_n hx hb dX0_row_7 rfl (lv_at hl 2 rfl) ?_
    refine lv_i2l (v := a1.toInt64) hx hb dX0_row_8 rfl ?_
    refine lv_lconst (v := 0) hx hb dX0_row_9 (by decide) ?_
    refine lv_ldc2 (v := 2) hx hb hown (hts _ q288) dX0_row_10 ?_
    obtain ⟨v3, h3, hf⟩ := ob1_e hf
    refine x_sR (ov := some (.int v3)) (D := D) (s0 := s0) (Sc := nS) (adc := ad) (Ic := (fun _ => 0)) (Ac := (fun _ _ => 0)) (Rc := nR) (Gc := nG) (Xc := []) (base := base) (As := [.long a1.toInt64, .long 0, .long 2]) (rest := []) ⟨hx, hb, hml, hown, hts⟩ (x_isIn_met l D s0 h0 ad [] base a1.toInt64 0 2 v3 h3) (va_cwS 3 hts (lw_S q285 q286 q76 q287) rfl rfl rfl x_isIn_ds.2 ⟨Nat.le_trans (Nat.le_of_ble_eq_true rfl) hRf, Nat.le_trans (Nat.le_of_ble_eq_true rfl) hRl⟩) hK hY (Nat.le_trans hB0 hS.1) WX_nil hcs rfl hl.1 rfl (Nat.le_of_ble_eq_true rfl) dX0_row_13 ?_
    refine lv_if_eq (tgt := 25) hx hb dX0_row_16 (by decide) (fun c4 => ?_) (fun c4 => ?_)
    · rw [if_pos c4] at hf
      refine lv_ldc (v := (-1000001)) hx hb hown (hts _ q289) dX0_row_25 ?_
      obtain ⟨rfl, rfl, rfl⟩ := so3 hf
      refine w_more (cells' := 2) (slots' := 44) (Nat.le_of_ble_eq_true rfl) (Nat.le_of_ble_eq_true rfl) ?_
      exact W.iret hx hb hr (fun t ht _ => ⟨rfl, by rw [ht]; exact ⟨G, X, own, af, ra, ta, hF, hAP, hW⟩, hS.F ht⟩) hS.2.2 dX0_row_27
    · rw [if_neg c4] at hf
      refine lv_iload_n hx hb dX0_row_19 rfl (lv_at hl 3 rfl) ?_
      refine lv_bipush (v := 40) hx hb dX0_row_20 (by decide) ?_
      refine lv_icmp_le (tgt := 28) hx hb dX0_row_22 (by decide) (fun c5 => ?_) (fun c5 => ?_)
      · rw [if_pos c5] at hf
        refine lv_iload_n hx hb dX0_row_28 rfl (lv_at hl 3 rfl) ?_
        obtain ⟨v6, hm6, hf⟩ := ob1_e hf
        refine w_cutL (nL := 5) (L := [(0, .ref (ad 199)), (1, .int a0), (2, .int a1), (3, .int a2)]) (pcj := 37) (st := [.int v6]) (fun ls hl => ?_) (fun K6 => ?_)
        · refine lv_iconst (v := 4) hx hb dX0_row_37 (by decide) ?_
          by_cases c8 : v6 = 0
          · rw [if_pos c8] at hf
            rw [c8]
            refine fi_caught (k := 4) 0 htab rfl (by decide) (by decide) hown hts hK hS hF (runST (g := F0 m 38 ls (.int 4 :: .int 0 :: [])) (As := [.int 0, .int 4]) (rest := []) ⟨hx, hb, hml, hown, hts⟩ (must_thr l D s0 h0 xS xwf ad X base hAP I A R G r1 r2 de hz 4) (va_cwS 2 hts (lw_S q290 q291 q76 q292) rfl rfl rfl must_ds.2 ⟨Nat.le_trans (Nat.le_of_ble_eq_true rfl) hRf, Nat.le_trans (Nat.le_of_ble_eq_true rfl) hRl⟩) ⟨PcZ_blind, pcz_at hY hK (Nat.le_trans hB0 hS.1) hW (z_low hq0 hB0 hS)⟩ rfl rfl hl.1 rfl (lv_room (m := m) (pc := 38) (ls := ls) (rest := []) (Nat.le_of_ble_eq_true rfl)) dX0_row_38 ⟨Nat.le_of_ble_eq_true rfl, Nat.le_of_ble_eq_true rfl⟩) (fun x9 R9 H locs X own hF hAP hW hS hm9 => ?_)
            have hcs : 0 + 1 ≤ (headSpec (wsW_ yX0_row cX0_row 5 (some .int) [(28, 61, 62, 71)]) ({ frames := 6, cells := 2, slots := 44, locals := 143 })).room.cells ∧ 0 + 7 ≤ (headSpec (wsW_ yX0_row cX0_row 5 (some .int) [(28, 61, 62, 71)]) ({ frames := 6, cells := 2, slots := 44, locals := 143 })).room.slots := ⟨Nat.le_of_ble_eq_true rfl, Nat.le_of_ble_eq_true rfl⟩
            refine lv_astore (lv' := [(4, .ref x9), (0, .ref (ad 199)), (1, .int a0), (2, .int a1), (3, .int a2)]) hx hb dX0_row_62 hl (by decide) rfl (fun ls hl => ?_)
            refine lv_aload_n hx hb dX0_row_64 rfl (lv_at hl 1 rfl) ?_
            refine lv_aload hx hb dX0_row_65 (lv_at hl 0 rfl) ?_
            refine x_vW (ov := some (.int ((-1000010) - 4))) (D := D) (s0 := s0) (Sc := xS) (adc := ad) (Ic := I) (Ac := A) (Rc := R) (Gc := G) (Xc := X) (base := base) (As := [.ref x9]) (rest := []) (Ic1 := upd I 110 4) (Ac1 := A) (Rc1 := R) (Gc1 := G) (Xc1 := X) (b := ad 199) (C := RX0) ⟨hx, hb, hml, hown, hts⟩ (found_met l D s0 h0 ad X base hAP I A R G x9 R9 4 hm9) (g_cwV 1 hts (lw_V q376 q378 qs2 q76 q379) rfl rfl found_ds ⟨Nat.le_trans (Nat.le_of_ble_eq_true rfl) hRf, Nat.le_trans (Nat.le_of_ble_eq_true rfl) hRl⟩) (x_recv hK hW xO199 rfl) hK hY (Nat.le_trans hB0 hS.1) hW hS hcs rfl hl.1 rfl (Nat.le_of_ble_eq_true rfl) dX0_row_67 (fun H locs hW hS => ?_)
            obtain ⟨rfl, rfl, rfl⟩ := so3 hf
            refine w_more (cells' := 2) (slots' := 44) (Nat.le_of_ble_eq_true rfl) (Nat.le_of_ble_eq_true rfl) ?_
            exact W.iret hx hb hr (fun t ht _ => ⟨rfl, by rw [ht]; exact ⟨G, X, own, af, ra, ta, hF, hAP, hW⟩, hS.F ht⟩) hS.2.2 dX0_row_70
          · rw [if_neg c8] at hf
            refine x_sR (ov := none) (D := D) (s0 := s0) (Sc := nS) (adc := ad) (Ic := fun _ => 0) (Ac := fun _ _ => 0) (Rc := nR) (Gc := nG) (Xc := []) (base := base) (As := [.int v6, .int 4]) (rest := []) ⟨hx, hb, hml, hown, hts⟩ (must_ret l D s0 ad base v6 4 c8) (va_cwS 2 hts (lw_S q290 q291 q76 q292) rfl rfl rfl must_ds.2 ⟨Nat.le_trans (Nat.le_of_ble_eq_true rfl) hRf, Nat.le_trans (Nat.le_of_ble_eq_true rfl) hRl⟩) hK hY (Nat.le_trans hB0 hS.1) WX_nil hcs rfl hl.1 rfl (Nat.le_of_ble_eq_true rfl) dX0_row_38 ?_
            refine lv_aload_n hx hb dX0_row_41 rfl (lv_at hl 0 rfl) ?_
            refine x_get (v := .ref (ad 100)) hx hb hts hown hK hW xO199 in_X0 rfl 0 (by decide) q224 rfl rfl dX0_row_42 ?_
            refine lv_iload_n hx hb dX0_row_45 rfl (lv_at hl 1 rfl) ?_
            obtain ⟨j9, hj9, hf⟩ := ob1_e hf
            obtain ⟨j10, hj10, hf⟩ := ob1_e hf
            obtain ⟨hL1, hL2⟩ := lenO_e hj10
            refine mk_row j9 hx hb hml hown hts hK hY h0 hz (Nat.le_trans (Nat.le_of_ble_eq_true rfl) hRf) (Nat.le_trans (Nat.le_of_ble_eq_true rfl) hRl) (Nat.le_of_ble_eq_true rfl) (Nat.le_of_ble_eq_true rfl) hq0 hB0 hF hAP hW hS hL1 hL2 hl.1 (lv_at hl 2 rfl) (lv_at hl 3 rfl) (Nat.le_of_ble_eq_true rfl) dX0_row_46 dX0_row_49 dX0_row_50 dX0_row_51 dX0_row_52 (fun H locs X own b9 q9 hF hAP hW hS hm1 hm2 => ?_)
            refine x_aastP hx hb hK xwf hAP hW hS (by decide) xG100 (ci := 5) rfl (Xt_mem.mp hm1).1 (slN_e hj9).1 dX0_row_55 (fun H locs hW hS => ?_)
            obtain ⟨G, ra, hF, hW⟩ : ∃ (G : Nat → Nat → Option Nat) (ra : Nat → Nat × Nat), XF D own af ra ta (P, va_up N j9 (some (a1, j10, fun _ => 0)), T, (pl, n, ks), Y) R G X ∧ WX D xS ad I A R G X H := ⟨_, _, hF.rowPut (r := some (a1, j10, fun _ => 0)) (rr := (b9, q9)) (fun q hq _ => hq) (slN_n hj9).2 (fun k hk => by
              rw [(slN_n hj9).1, nI_clamp (by have := (slN_n hj9).2; omega), va_up_self]
              by_cases ek : k = j9
              · rw [if_pos ek, ek, va_up_self]; rfl
              · rw [if_neg ek, va_up_ne _ _ ek]) (va_up_ne _ _ (by decide)) (va_up_ne _ _ (by decide)) (fun F hF => by cases hF; exact ⟨hL2, hm1, hm2⟩), hW⟩
            have hR := hF.reg
            refine w_more (cells' := 2) (slots' := 44) (by omega) (by omega) ?_
            have hcs : 2 ≤ (headSpec (wsW_ yX0_row cX0_row 5 (some .int) [(28, 61, 62, 71)]) ({ frames := 6, cells := 2, slots := 44, locals := 143 })).room.cells ∧ 44 ≤ (headSpec (wsW_ yX0_row cX0_row 5 (some .int) [(28, 61, 62, 71)]) ({ frames := 6, cells := 2, slots := 44, locals := 143 })).room.slots := ⟨Nat.le_of_ble_eq_true rfl, Nat.le_of_ble_eq_true rfl⟩
            refine lv_aload_n hx hb dX0_row_56 rfl (lv_at hl 0 rfl) ?_
            refine lv_iload_n hx hb dX0_row_57 rfl (lv_at hl 3 rfl) ?_
            obtain ⟨v11, I12, h12, hf⟩ := ob2_e hf
            refine x_vW (ov := some (.int v11)) (D := D) (s0 := s0) (Sc := xS) (adc := ad) (Ic := I) (Ac := A) (Rc := R) (Gc := G) (Xc := X) (base := base) (As := [.int a2]) (rest := []) (Ic1 := I12) (Ac1 := A) (Rc1 := R) (Gc1 := G) (Xc1 := X) (b := ad 199) (C := RX0) ⟨hx, hb, hml, hown, hts⟩ (x_well_met l D s0 h0 ad X base hAP I A R G pl n ks hR a2 v11 I12 h12) (g_cwV 1 hts (lw_V q372 q374 qs1 q76 q375) rfl rfl x_well_ds ⟨Nat.le_trans (Nat.le_of_ble_eq_true rfl) hRf, Nat.le_trans (Nat.le_of_ble_eq_true rfl) hRl⟩) (x_recv hK hW xO199 rfl) hK hY (Nat.le_trans hB0 hS.1) hW hS hcs rfl hl.1 rfl (Nat.le_of_ble_eq_true rfl) dX0_row_58 (fun H locs hW hS => ?_)
            obtain ⟨rfl, rfl, rfl⟩ := so3 hf
            exact W.iret hx hb hr (fun t ht _ => ⟨rfl, by rw [ht]; exact ⟨G, X, own, af, ra, ta, hF, hAP, hW⟩, hS.F ht⟩) hS.2.2 dX0_row_61
        · refine lv_if_lt (tgt := 36) hx hb dX0_row_29 (by decide) (fun c7 => ?_) (fun c7 => ?_)
          · rw [if_pos c7] at hm6
            refine lv_iconst (v := 0) hx hb dX0_row_36 (by decide) ?_
            obtain rfl := so1 hm6
            exact K6 ls (lv_sub hl [0, 1, 2, 3] rfl)
          · rw [if_neg c7] at hm6
            refine lv_iconst (v := 1) hx hb dX0_row_32 (by decide) ?_
            refine lv_goto (tgt := 37) hx hb dX0_row_33 (by decide) ?_
            obtain rfl := so1 hm6
            exact K6 ls (lv_sub hl [0, 1, 2, 3] rfl)
      · rw [if_neg c5] at hf
        refine lv_ldc (v := (-1000001)) hx hb hown (hts _ q289) dX0_row_25 ?_
        obtain ⟨rfl, rfl, rfl⟩ := so3 hf
        refine w_more (cells' := 2) (slots' := 44) (Nat.le_of_ble_eq_true rfl) (Nat.le_of_ble_eq_true rfl) ?_
        exact W.iret hx hb hr (fun t ht _ => ⟨rfl, by rw [ht]; exact ⟨G, X, own, af, ra, ta, hF, hAP, hW⟩, hS.F ht⟩) hS.2.2 dX0_row_27
theorem h_row_ds : yX0_row.cls = RX0 ∧ yX0_row.cls ≠ "java/lang/invoke/MethodHandle" ∧ yX0_row.cls ≠ "java/lang/invoke/VarHandle" ∧ (parseMethodDescriptor yX0_row.desc).map (fun d => d.parameters.length) = some 3 := by decide +kernel
def h_trace (I : Nat → Int32) (A : Nat → Nat → Int32) (R : Nat → Option Nat) (P : Nat → Option Par) (N : Nat → Option Rw_) (T : Int32 × (Nat → Int32)) (pl n : Nat) (ks : Nat → Nat) (a0 : Int32) : Option (Int32) :=
  ob1 (x_isIn a0.toInt64 0 ((T.1 - 1).toInt64)) fun (v1 : Int32) =>
  ob1 (if v1 = 0 then ((some (-1000000) : Option (Int32))) else (ob1 (ldO T.2 16 a0) fun (v4 : Int32) =>
      (some v4 : Option (Int32)))) fun (v2 : Int32) =>
  some v2
set_option maxRecDepth 100000 in
set_option maxHeartbeats 4000000 in
theorem h_trace_met (l : Launch) (D : dd_) (s0 : State) (h0 : ∀ w ∈ lw_tbl, va_Nw w s0) (ad : Nat → Nat) (base : Nat) (r1 r2 : Option Nat) (de : Nat) (hz : FZ base s0 r1 r2 de) (I : Nat → Int32) (A : Nat → Nat → Int32) (R : Nat → Option Nat) (P : Nat → Option Par) (N : Nat → Option Rw_) (T : Int32 × (Nat → Int32)) (pl n : Nat) (ks : Nat → Nat) (Y : va_W) (a0 : Int32) (r : Int32) (hf : h_trace I A R P N T pl n ks a0 = some r) : Met l yX0_trace (ws_ yX0_trace cX0_trace 2 (some .int)) ({ frames := 2, cells := 0, slots := 0, locals := 85 }) (PcH D s0 ad I A R (P, N, T, (pl, n, ks), Y) base [.ref (ad 199), .int a0]) (QcE (HX D ad I A R (P, N, T, (pl, n, ks), Y) base) base (some (.int r))) 0 0 (upB base) := by
  refine Met.ofW (cc := cX0_trace) (maxL := 2) (ret := (some .int)) (by decide) rfl ?_
  intro p e s m args below meth c s₁ B hml hv
  obtain ⟨rfl, hK, hY, hB0, hH, hq0⟩ := hv
  obtain ⟨G, X, own, af, ra, ta, hF, hAP, hW⟩ := hH
  have hR := hF.reg
  have hx := B.exec
  have hb := B.bytes
  have hr := B.returns
  have hts0 := atoms_spec (ws := (ws_ yX0_trace cX0_trace 2 (some .int))) B.pre
  have hts : ∀ w ∈ lw_all, w.before _ s = true := fun w h => hts0 w (List.mem_cons_of_mem _ h)
  have hown : s.vm.findClass RX0 = some m.cls := findClass_of_methodNamed B.named
  have hlocks := B.notSynchronized
  have hRf : 2 ≤ (headSpec (ws_ yX0_trace cX0_trace 2 (some .int)) ({ frames := 2, cells := 0, slots := 0, locals := 85 })).room.frames := Nat.le_refl _
  have hRl : 85 ≤ (headSpec (ws_ yX0_trace cX0_trace 2 (some .int)) ({ frames := 2, cells := 0, slots := 0, locals := 85 })).room.locals := Nat.le_refl _
  have hcs : 0 ≤ (headSpec (ws_ yX0_trace cX0_trace 2 (some .int)) ({ frames := 2, cells := 0, slots := 0, locals := 85 })).room.cells ∧ 0 ≤ (headSpec (ws_ yX0_trace cX0_trace 2 (some .int)) ({ frames := 2, cells := 0, slots := 0, locals := 85 })).room.slots := ⟨Nat.zero_le _, Nat.zero_le _⟩
  have hS : va_S (upB base) s.heap s.heap [] := va_S.rf
  have hl := lv_entry ([.ref (ad 199), .int a0]) (n := 2) (Nat.le_of_ble_eq_true rfl)
  rw [lg_entry_eq]
  generalize (lg_sl ([.ref (ad 199), .int a0]) ++ List.replicate (2 - (lg_sl ([.ref (ad 199), .int a0])).length) Slot.unset).toArray = ls at hl ⊢
  have hl : lv_has ls 2 [(0, .ref (ad 199)), (1, .int a0)] := hl
  have hf : (ob1 (x_isIn a0.toInt64 0 ((T.1 - 1).toInt64)) fun (v1 : Int32) =>
    ob1 (if v1 = 0 then ((some (-1000000) : Option (Int32))) else (ob1 (ldO T.2 16 a0) fun (v4 : Int32) =>
        (some v4 : Option (Int32)))) fun (v2 : Int32) =>
    some v2) = some r := hf
  refine lv_iload_n hx hb dX0_trace_0 rfl (lv_at hl 1 rfl) ?_
  refine lv_i2l (v := a0.toInt64) hx hb dX0_trace_1 rfl ?_
  refine lv_lconst (v := 0) hx hb dX0_trace_2 (by decide) ?_
  refine lv_aload_n hx hb dX0_trace_3 rfl (lv_at hl 0 rfl) ?_
  refine x_get (v := .ref ta.1) hx hb hts hown hK hW xO199 in_X0 rfl 9 (by decide) q233 rfl (congrArg (fun z => some (va_rf z)) hF.2.2.2.1) dX0_trace_4 ?_
  refine x_getND (v := .int T.1) hx hb hts hown hK hY h0 hW (Xt_mem.mp hF.2.2.1.1).1 in_X2 rfl 1 (by decide) q218 (fun _ h => h) rfl dX0_trace_7 ?_
  refine lv_iconst (v := 1) hx hb dX0_trace_10 (by decide) ?_
  refine lv_isub hx hb dX0_trace_11 ?_
  refine lv_i2l (v := (T.1 - 1).toInt64) hx hb dX0_trace_12 rfl ?_
  obtain ⟨v1, h1, hf⟩ := ob1_e hf
  refine x_sR (ov := some (.int v1)) (D := D) (s0 := s0) (Sc := nS) (adc := ad) (Ic := (fun _ => 0)) (Ac := (fun _ _ => 0)) (Rc := nR) (Gc := nG) (Xc := []) (base := base) (As := [.long a0.toInt64, .long 0, .long ((T.1 - 1).toInt64)]) (rest := []) ⟨hx, hb, hml, hown, hts⟩ (x_isIn_met l D s0 h0 ad [] base a0.toInt64 0 ((T.1 - 1).toInt64) v1 h1) (va_cwS 3 hts (lw_S q285 q286 q76 q287) rfl rfl rfl x_isIn_ds.2 ⟨Nat.le_trans (Nat.le_of_ble_eq_true rfl) hRf, Nat.le_trans (Nat.le_of_ble_eq_true rfl) hRl⟩) hK hY (Nat.le_trans hB0 hS.1) WX_nil hcs rfl hl.1 rfl (Nat.le_of_ble_eq_true rfl) dX0_trace_13 ?_
  obtain ⟨v2, hm2, hf⟩ := ob1_e hf
  refine w_cutL (nL := 2) (L := []) (pcj := 34) (st := [.int v2]) (fun ls hl => ?_) (fun K2 => ?_)
  · obtain rfl := so1 hf
    exact W.iret hx hb hr (fun t ht _ => ⟨rfl, by rw [ht]; exact ⟨G, X, own, af, ra, ta, hF, hAP, hW⟩, hS.F ht⟩) hS.2.2 dX0_trace_34
  · refine lv_if_eq (tgt := 31) hx hb dX0_trace_16 (by decide) (fun c3 => ?_) (fun c3 => ?_)
    · rw [if_pos c3] at hm2
      refine lv_ldcw (v := (-1000000)) hx hb hown (hts _ q941) dX0_trace_31 ?_
      obtain rfl := so1 hm2
      exact K2 ls (lv_sub hl [] rfl)
    · rw [if_neg c3] at hm2
      refine lv_aload_n hx hb dX0_trace_19 rfl (lv_at hl 0 rfl) ?_
      refine x_get (v := .ref ta.1) hx hb hts hown hK hW xO199 in_X0 rfl 9 (by decide) q233 rfl (congrArg (fun z => some (va_rf z)) hF.2.2.2.1) dX0_trace_20 ?_
      refine x_getND (v := .ref ta.2) hx hb hts hown hK hY h0 hW (Xt_mem.mp hF.2.2.1.1).1 in_X2 rfl 0 (by decide) q216 (fun _ h => h) rfl dX0_trace_23 ?_
      refine lv_iload_n hx hb dX0_trace_26 rfl (lv_at hl 1 rfl) ?_
      obtain ⟨v4, hv4, hm2⟩ := ob1_e hm2
      refine x_ialdD hx hb hK hW (Xt_mem.mp hF.2.2.1.2).1 hv4 dX0_trace_27 ?_
      refine lv_goto (tgt := 34) hx hb dX0_trace_28 (by decide) ?_
      obtain rfl := so1 hm2
      exact K2 ls (lv_sub hl [] rfl)
theorem h_trace_ds : yX0_trace.cls = RX0 ∧ yX0_trace.cls ≠ "java/lang/invoke/MethodHandle" ∧ yX0_trace.cls ≠ "java/lang/invoke/VarHandle" ∧ (parseMethodDescriptor yX0_trace.desc).map (fun d => d.parameters.length) = some 1 := by decide +kernel
