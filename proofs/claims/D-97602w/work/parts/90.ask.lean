/-! the trail and the parish -/
abbrev tS : sp_ := ([(199, 3, [.inr (.inl 100), .inl 101]), (299, 2, [.inr (.inl 200), .inr (.inr 201), .inr (.inl 202), .inr (.inl 203), .inl 204, .inr (.inl 205), .inr (.inl 206), .inr (.inl 207), .inr (.inl 208), .inr (.inl 209), .inl 210, .inl 211])], [(100, 16, .int), (200, 6, .int), (202, 5, .int), (203, 5, .int), (205, 8, .int), (206, 8, .int), (207, 8, .int), (208, 8, .int), (209, 8, .int)], [])
theorem twf : wfS tS := ⟨by decide +kernel, by decide +kernel, by decide +kernel, by decide +kernel, by decide +kernel, by decide +kernel⟩
theorem tO199 : ((199, 3, [.inr (.inl 100), .inl 101]) : Nat × Nat × List fc_) ∈ tS.1 := List.mem_of_getElem? (i := 0) rfl
theorem tO299 : ((299, 2, [.inr (.inl 200), .inr (.inr 201), .inr (.inl 202), .inr (.inl 203), .inl 204, .inr (.inl 205), .inr (.inl 206), .inr (.inl 207), .inr (.inl 208), .inr (.inl 209), .inl 210, .inl 211]) : Nat × Nat × List fc_) ∈ tS.1 := List.mem_of_getElem? (i := 1) rfl
theorem tA100 : ((100, 16, .int) : Nat × Nat × FieldType) ∈ tS.2.1 := List.mem_of_getElem? (i := 0) rfl
theorem tA200 : ((200, 6, .int) : Nat × Nat × FieldType) ∈ tS.2.1 := List.mem_of_getElem? (i := 1) rfl
theorem tA202 : ((202, 5, .int) : Nat × Nat × FieldType) ∈ tS.2.1 := List.mem_of_getElem? (i := 2) rfl
theorem tA203 : ((203, 5, .int) : Nat × Nat × FieldType) ∈ tS.2.1 := List.mem_of_getElem? (i := 3) rfl
theorem tA205 : ((205, 8, .int) : Nat × Nat × FieldType) ∈ tS.2.1 := List.mem_of_getElem? (i := 4) rfl
theorem tA206 : ((206, 8, .int) : Nat × Nat × FieldType) ∈ tS.2.1 := List.mem_of_getElem? (i := 5) rfl
theorem tA207 : ((207, 8, .int) : Nat × Nat × FieldType) ∈ tS.2.1 := List.mem_of_getElem? (i := 6) rfl
theorem tA208 : ((208, 8, .int) : Nat × Nat × FieldType) ∈ tS.2.1 := List.mem_of_getElem? (i := 7) rfl
theorem tA209 : ((209, 8, .int) : Nat × Nat × FieldType) ∈ tS.2.1 := List.mem_of_getElem? (i := 8) rfl
abbrev tS200 : sp_ := ([(199, 3, [.inr (.inl 100), .inl 101])], [(100, 16, .int)], [])
theorem twf200 : wfS tS200 := ⟨by decide +kernel, by decide +kernel, by decide +kernel, by decide +kernel, by decide +kernel, by decide +kernel⟩
def tr200 (D : dd_) (ad : Nat → Nat) (I : Nat → Int32) (A : Nat → Nat → Int32) (R : Nat → Option Nat) (G : Nat → Nat → Option Nat) (X : va_W) : va_W := wl D tS200 ad I A R G ++ X
theorem tap200 {D : dd_} {ad : Nat → Nat} {I : Nat → Int32} {A : Nat → Nat → Int32} {R : Nat → Option Nat} {G : Nat → Nat → Option Nat} {X : va_W} {base : Nat} (h : AP tS ad X base) : AP pS (sh 200 ad) (tr200 D ad I A R G X) base := AP.sub h twf200 (by decide +kernel) (by decide +kernel) (by decide +kernel)
theorem trg200 {D : dd_} {ad : Nat → Nat} {I : Nat → Int32} {A : Nat → Nat → Int32} {R : Nat → Option Nat} {G : Nat → Nat → Option Nat} {X : va_W} {pl n : Nat} {ks : Nat → Nat} (h : RegX D X pl n ks) : RegX D (tr200 D ad I A R G X) pl n ks := h.mono (fun q hq => List.mem_append_right _ hq)
set_option maxRecDepth 100000 in
theorem tw200 {D : dd_} {ad : Nat → Nat} {I : Nat → Int32} {A : Nat → Nat → Int32} {R : Nat → Option Nat} {G : Nat → Nat → Option Nat} {X : va_W} {H : Heap} (hW : WX D tS ad I A R G X H) : WX D pS (sh 200 ad) (sh 200 I) (sh 200 A) (sh 200 R) nG (tr200 D ad I A R G X) H := by
  refine vaP_mem hW (fun q hq => ?_)
  rcases List.mem_append.mp hq with h | h
  · exact List.mem_append_left _ (sub_mem [1, 3, 4, 5, 6, 7, 8, 9, 10] rfl q h)
  · rcases List.mem_append.mp h with h | h
    · exact List.mem_append_left _ (sub_mem [0, 2] rfl q h)
    · exact List.mem_append_right _ h
def t_begins (I : Nat → Int32) (A : Nat → Nat → Int32) (R : Nat → Option Nat) (G : Nat → Nat → Option Nat) (a0 : Int32) : Option ((Nat → Int32) × (Nat → Nat → Int32)) :=
  ob2 (if 16 ≤ (I 101) then ((some (I, A) : Option ((Nat → Int32) × (Nat → Nat → Int32)))) else (ob1 (stO (A 100) 16 (I 101) a0) fun (f4 : Nat → Int32) =>
      (some (upd I 101 ((I 101) + 1), va_up A 100 f4) : Option ((Nat → Int32) × (Nat → Nat → Int32))))) fun (I1 : Nat → Int32) (A2 : Nat → Nat → Int32) =>
  some (I1, A2)
set_option maxRecDepth 100000 in
set_option maxHeartbeats 4000000 in
theorem t_begins_met (l : Launch) (D : dd_) (s0 : State) (h0 : ∀ w ∈ lw_tbl, va_Nw w s0) (ad : Nat → Nat) (X : va_W) (base : Nat) (hAP : AP tS ad X base) (I : Nat → Int32) (A : Nat → Nat → Int32) (R : Nat → Option Nat) (G : Nat → Nat → Option Nat) (a0 : Int32) (I1 : (Nat → Int32)) (A1 : (Nat → Nat → Int32)) (hf : t_begins I A R G a0 = some (I1, A1)) : Met l yX2_begins (ws_ yX2_begins cX2_begins 2 none) ({ frames := 1, cells := 0, slots := 0, locals := 32 }) (PcX D s0 tS ad I A R G X base [.ref (ad 199), .int a0]) (QcX D tS ad I1 A1 R G X base (none)) 0 0 (upB base) := by
  refine Met.ofW (cc := cX2_begins) (maxL := 2) (ret := none) (by decide) rfl ?_
  intro p e s m args below meth c s₁ B hml hv
  obtain ⟨rfl, hK, hY, hB0, hW⟩ := hv
  have hx := B.exec
  have hb := B.bytes
  have hr := B.returns
  have hts := atoms_spec (ws := (ws_ yX2_begins cX2_begins 2 none)) B.pre
  have hts : ∀ w ∈ lw_all, w.before _ s = true := fun w h => hts w (List.mem_cons_of_mem _ h)
  have hown : s.vm.findClass RX2 = some m.cls := findClass_of_methodNamed B.named
  have hlocks := B.notSynchronized
  have hRf : 1 ≤ (headSpec (ws_ yX2_begins cX2_begins 2 none) ({ frames := 1, cells := 0, slots := 0, locals := 32 })).room.frames := Nat.le_refl _
  have hRl : 32 ≤ (headSpec (ws_ yX2_begins cX2_begins 2 none) ({ frames := 1, cells := 0, slots := 0, locals := 32 })).room.locals := Nat.le_refl _
  have hcs : 0 ≤ (headSpec (ws_ yX2_begins cX2_begins 2 none) ({ frames := 1, cells := 0, slots := 0, locals := 32 })).room.cells ∧ 0 ≤ (headSpec (ws_ yX2_begins cX2_begins 2 none) ({ frames := 1, cells := 0, slots := 0, locals := 32 })).room.slots := ⟨Nat.zero_le _, Nat.zero_le _⟩
  have hS : va_S (upB base) s.heap s.heap [] := va_S.rf
  have hl := lv_entry ([.ref (ad 199), .int a0]) (n := 2) (Nat.le_of_ble_eq_true rfl)
  rw [lg_entry_eq]
  generalize (lg_sl ([.ref (ad 199), .int a0]) ++ List.replicate (2 - (lg_sl ([.ref (ad 199), .int a0])).length) Slot.unset).toArray = ls at hl ⊢
  have hl : lv_has ls 2 [(0, .ref (ad 199)), (1, .int a0)] := hl
  have hf : (ob2 (if 16 ≤ (I 101) then ((some (I, A) : Option ((Nat → Int32) × (Nat → Nat → Int32)))) else (ob1 (stO (A 100) 16 (I 101) a0) fun (f4 : Nat → Int32) =>
        (some (upd I 101 ((I 101) + 1), va_up A 100 f4) : Option ((Nat → Int32) × (Nat → Nat → Int32))))) fun (I1 : Nat → Int32) (A2 : Nat → Nat → Int32) =>
    some (I1, A2)) = some (I1, A1) := hf
  refine lv_aload_n hx hb dX2_begins_0 rfl (lv_at hl 0 rfl) ?_
  refine x_get (v := .int (I 101)) hx hb hts hown hK hW tO199 in_X2 rfl 1 (by decide) q217 rfl rfl dX2_begins_1 ?_
  refine lv_bipush (v := 16) hx hb dX2_begins_4 (by decide) ?_
  obtain ⟨I1, A2, hm2, hf⟩ := ob2_e hf
  refine w_cutH (A0 := upB base) (H0 := s.heap) (X := WX D tS ad I1 A2 R G X) (nL := 2) (L := []) (pcj := 26) (st := []) (fun H locs ls hW hS hl => ?_) (fun K2 => ?_)
  · obtain ⟨rfl, rfl⟩ := so2 hf
    exact W.vret hx hb hr (fun t ht _ => ⟨rfl, by rw [ht]; exact hW, hS.F ht⟩) hS.2.2 dX2_begins_26
  · refine lv_icmp_ge (tgt := 26) hx hb dX2_begins_6 (by decide) (fun c3 => ?_) (fun c3 => ?_)
    · rw [if_pos c3] at hm2
      obtain ⟨rfl, rfl⟩ := so2 hm2
      exact K2 _ _ ls hW hS (lv_sub hl [] rfl)
    · rw [if_neg c3] at hm2
      refine lv_aload_n hx hb dX2_begins_9 rfl (lv_at hl 0 rfl) ?_
      refine x_get (v := .ref (ad 100)) hx hb hts hown hK hW tO199 in_X2 rfl 0 (by decide) q215 rfl rfl dX2_begins_10 ?_
      refine lv_aload_n hx hb dX2_begins_13 rfl (lv_at hl 0 rfl) ?_
      refine lv_dup hx hb dX2_begins_14 rfl ?_
      refine x_get (v := .int (I 101)) hx hb hts hown hK hW tO199 in_X2 rfl 1 (by decide) q217 rfl rfl dX2_begins_15 ?_
      refine lv_dup_x1 hx hb dX2_begins_18 rfl rfl ?_
      refine lv_iconst (v := 1) hx hb dX2_begins_19 (by decide) ?_
      refine lv_iadd hx hb dX2_begins_20 ?_
      refine x_putI hx hb hts hown hK twf hAP hW hS tO199 in_X2 tyX2 tyX2_ok nmX2 rfl 1 101 (by decide) rfl q217 rfl rfl (by decide +kernel) dX2_begins_21 (fun H locs hW hS => ?_)
      refine lv_iload_n hx hb dX2_begins_24 rfl (lv_at hl 1 rfl) ?_
      obtain ⟨f4, hf4, hm2⟩ := ob1_e hm2
      refine x_iast hx hb hK twf hAP hW hS tA100 hf4 dX2_begins_25 (fun H locs hW hS => ?_)
      obtain ⟨rfl, rfl⟩ := so2 hm2
      exact K2 _ _ ls hW hS (lv_sub hl [] rfl)
theorem t_begins_ds : yX2_begins.cls = RX2 ∧ yX2_begins.cls ≠ "java/lang/invoke/MethodHandle" ∧ yX2_begins.cls ≠ "java/lang/invoke/VarHandle" ∧ (parseMethodDescriptor yX2_begins.desc).map (fun d => d.parameters.length) = some 1 := by decide +kernel
