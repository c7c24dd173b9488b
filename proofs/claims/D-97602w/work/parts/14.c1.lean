/-! statics and leaves -/
theorem nwf : wfS nS := ⟨by decide +kernel, by decide +kernel, by decide +kernel, by decide +kernel, by decide +kernel, by decide +kernel⟩
def ji_bitCount (a0 : Int32) : Option (Int32) :=
  some ((((((((a0 - (((a0.toUInt32 >>> ((1 : Int32).toUInt32 &&& Int32.toUInt32 31)).toInt32) &&& 1431655765)) &&& 858993459) + ((((a0 - (((a0.toUInt32 >>> ((1 : Int32).toUInt32 &&& Int32.toUInt32 31)).toInt32) &&& 1431655765)).toUInt32 >>> ((2 : Int32).toUInt32 &&& Int32.toUInt32 31)).toInt32) &&& 858993459)) + (((((a0 - (((a0.toUInt32 >>> ((1 : Int32).toUInt32 &&& Int32.toUInt32 31)).toInt32) &&& 1431655765)) &&& 858993459) + ((((a0 - (((a0.toUInt32 >>> ((1 : Int32).toUInt32 &&& Int32.toUInt32 31)).toInt32) &&& 1431655765)).toUInt32 >>> ((2 : Int32).toUInt32 &&& Int32.toUInt32 31)).toInt32) &&& 858993459)).toUInt32 >>> ((4 : Int32).toUInt32 &&& Int32.toUInt32 31)).toInt32)) &&& 252645135) + (((((((a0 - (((a0.toUInt32 >>> ((1 : Int32).toUInt32 &&& Int32.toUInt32 31)).toInt32) &&& 1431655765)) &&& 858993459) + ((((a0 - (((a0.toUInt32 >>> ((1 : Int32).toUInt32 &&& Int32.toUInt32 31)).toInt32) &&& 1431655765)).toUInt32 >>> ((2 : Int32).toUInt32 &&& Int32.toUInt32 31)).toInt32) &&& 858993459)) + (((((a0 - (((a0.toUInt32 >>> ((1 : Int32).toUInt32 &&& Int32.toUInt32 31)).toInt32) &&& 1431655765)) &&& 858993459) + ((((a0 - (((a0.toUInt32 >>> ((1 : Int32).toUInt32 &&& Int32.toUInt32 31)).toInt32) &&& 1431655765)).toUInt32 >>> ((2 : Int32).toUInt32 &&& Int32.toUInt32 31)).toInt32) &&& 858993459)).toUInt32 >>> ((4 : Int32).toUInt32 &&& Int32.toUInt32 31)).toInt32)) &&& 252645135).toUInt32 >>> ((8 : Int32).toUInt32 &&& Int32.toUInt32 31)).toInt32)) + ((((((((a0 - (((a0.toUInt32 >>> ((1 : Int32).toUInt32 &&& Int32.toUInt32 31)).toInt32) &&& 1431655765)) &&& 858993459) + ((((a0 - (((a0.toUInt32 >>> ((1 : Int32).toUInt32 &&& Int32.toUInt32 31)).toInt32) &&& 1431655765)).toUInt32 >>> ((2 : Int32).toUInt32 &&& Int32.toUInt32 31)).toInt32) &&& 858993459)) + (((((a0 - (((a0.toUInt32 >>> ((1 : Int32).toUInt32 &&& Int32.toUInt32 31)).toInt32) &&& 1431655765)) &&& 858993459) + ((((a0 - (((a0.toUInt32 >>> ((1 : Int32).toUInt32 &&& Int32.toUInt32 31)).toInt32) &&& 1431655765)).toUInt32 >>> ((2 : Int32).toUInt32 &&& Int32.toUInt32 31)).toInt32) &&& 858993459)).toUInt32 >>> ((4 : Int32).toUInt32 &&& Int32.toUInt32 31)).toInt32)) &&& 252645135) + (((((((a0 - (((a0.toUInt32 >>> ((1 : Int32).toUInt32 &&& Int32.toUInt32 31)).toInt32) &&& 1431655765)) &&& 858993459) + ((((a0 - (((a0.toUInt32 >>> ((1 : Int32).toUInt32 &&& Int32.toUInt32 31)).toInt32) &&& 1431655765)).toUInt32 >>> ((2 : Int32).toUInt32 &&& Int32.toUInt32 31)).toInt32) &&& 858993459)) + (((((a0 - (((a0.toUInt32 >>> ((1 : Int32).toUInt32 &&& Int32.toUInt32 31)).toInt32) &&& 1431655765)) &&& 858993459) + ((((a0 - (((a0.toUInt32 >>> ((1 : Int32).toUInt32 &&& Int32.toUInt32 31)).toInt32) &&& 1431655765)).toUInt32 >>> ((2 : Int32).toUInt32 &&& Int32.toUInt32 31)).toInt32) &&& 858993459)).toUInt32 >>> ((4 : Int32).toUInt32 &&& Int32.toUInt32 31)).toInt32)) &&& 252645135).toUInt32 >>> ((8 : Int32).toUInt32 &&& Int32.toUInt32 31)).toInt32)).toUInt32 >>> ((16 : Int32).toUInt32 &&& Int32.toUInt32 31)).toInt32)) &&& 63)
set_option maxRecDepth 100000 in
set_option maxHeartbeats 4000000 in
theorem ji_bitCount_met (l : Launch) (D : dd_) (s0 : State) (h0 : ∀ w ∈ lw_tbl, va_Nw w s0) (ad : Nat → Nat) (X : va_W) (base : Nat) (a0 : Int32) (r : Int32) (hf : ji_bitCount a0 = some r) : Met l yJ16_bitCount (ws_ yJ16_bitCount cJ16_bitCount 1 (some .int)) ({ frames := 1, cells := 0, slots := 0, locals := 32 }) (PcX D s0 nS ad (fun _ => 0) (fun _ _ => 0) nR nG X base [.int a0]) (QcR (some (.int r))) 0 0 (fun _ => False) := by
  refine Met.ofW (cc := cJ16_bitCount) (maxL := 1) (ret := (some .int)) (by decide) rfl ?_
  intro p e s m args below meth c s₁ B hml hv
  obtain ⟨rfl, hK, hY, hB, hW⟩ := hv
  have hx := B.exec
  have hb := B.bytes
  have hr := B.returns
  have hts := atoms_spec (ws := (ws_ yJ16_bitCount cJ16_bitCount 1 (some .int))) B.pre
  have hts : ∀ w ∈ lw_all, w.before _ s = true := fun w h => hts w (List.mem_cons_of_mem _ h)
  have hown : s.vm.findClass RJ16 = some m.cls := findClass_of_methodNamed B.named
  have hlocks := B.notSynchronized
  have hRf : 1 ≤ (headSpec (ws_ yJ16_bitCount cJ16_bitCount 1 (some .int)) ({ frames := 1, cells := 0, slots := 0, locals := 32 })).room.frames := Nat.le_refl _
  have hRl : 32 ≤ (headSpec (ws_ yJ16_bitCount cJ16_bitCount 1 (some .int)) ({ frames := 1, cells := 0, slots := 0, locals := 32 })).room.locals := Nat.le_refl _
  have hcs : 0 ≤ (headSpec (ws_ yJ16_bitCount cJ16_bitCount 1 (some .int)) ({ frames := 1, cells := 0, slots := 0, locals := 32 })).room.cells ∧ 0 ≤ (headSpec (ws_ yJ16_bitCount cJ16_bitCount 1 (some .int)) ({ frames := 1, cells := 0, slots := 0, locals := 32 })).room.slots := ⟨Nat.zero_le _, Nat.zero_le _⟩
  have hl := lv_entry ([.int a0]) (n := 1) (Nat.le_of_ble_eq_true rfl)
  rw [lg_entry_eq]
  generalize (lg_sl ([.int a0]) ++ List.replicate (1 - (lg_sl ([.int a0])).length) Slot.unset).toArray = ls at hl ⊢
  have hl : lv_has ls 1 [(0, .int a0)] := hl
  have hf : (some ((((((((a0 - (((a0.toUInt32 >>> ((1 : Int32).toUInt32 &&& Int32.toUInt32 31)).toInt32) &&& 1431655765)) &&& 858993459) + ((((a0 - (((a0.toUInt32 >>> ((1 : Int32).toUInt32 &&& Int32.toUInt32 31)).toInt32) &&& 1431655765)).toUInt32 >>> ((2 : Int32).toUInt32 &&& Int32.toUInt32 31)).toInt32) &&& 858993459)) + (((((a0 - (((a0.toUInt32 >>> ((1 : Int32).toUInt32 &&& Int32.toUInt32 31)).toInt32) &&& 1431655765)) &&& 858993459) + ((((a0 - (((a0.toUInt32 >>> ((1 : Int32).toUInt32 &&& Int32.toUInt32 31)).toInt32) &&& 1431655765)).toUInt32 >>> ((2 : Int32).toUInt32 &&& Int32.toUInt32 31)).toInt32) &&& 858993459)).toUInt32 >>> ((4 : Int32).toUInt32 &&& Int32.toUInt32 31)).toInt32)) &&& 252645135) + (((((((a0 - (((a0.toUInt32 >>> ((1 : Int32).toUInt32 &&& Int32.toUInt32 31)).toInt32) &&& 1431655765)) &&& 858993459) + ((((a0 - (((a0.toUInt32 >>> ((1 : Int32).toUInt32 &&& Int32.toUInt32 31)).toInt32) &&& 1431655765)).toUInt32 >>> ((2 : Int32).toUInt32 &&& Int32.toUInt32 31)).toInt32) &&& 858993459)) + (((((a0 - (((a0.toUInt32 >>> ((1 : Int32).toUInt32 &&& Int32.toUInt32 31)).toInt32) &&& 1431655765)) &&& 858993459) + ((((a0 - (((a0.toUInt32 >>> ((1 : Int32).toUInt32 &&& Int32.toUInt32 31)).toInt32) &&& 1431655765)).toUInt32 >>> ((2 : Int32).toUInt32 &&& Int32.toUInt32 31)).toInt32) &&& 858993459)).toUInt32 >>> ((4 : Int32).toUInt32 &&& Int32.toUInt32 31)).toInt32)) &&& 252645135).toUInt32 >>> ((8 : Int32).toUInt32 &&& Int32.toUInt32 31)).toInt32)) + ((((((((a0 - (((a0.toUInt32 >>> ((1 : Int32).toUInt32 &&& Int32.toUInt32 31)).toInt32) &&& 1431655765)) &&& 858993459) + ((((a0 - (((a0.toUInt32 >>> ((1 : Int32).toUInt32 &&& Int32.toUInt32 31)).toInt32) &&& 1431655765)).toUInt32 >>> ((2 : Int32).toUInt32 &&& Int32.toUInt32 31)).toInt32) &&& 858993459)) + (((((a0 - (((a0.toUInt32 >>> ((1 : Int32).toUInt32 &&& Int32.toUInt32 31)).toInt32) &&& 1431655765)) &&& 858993459) + ((((a0 - (((a0.toUInt32 >>> ((1 : Int32).toUInt32 &&& Int32.toUInt32 31)).toInt32) &&& 1431655765)).toUInt32 >>> ((2 : Int32).toUInt32 &&& Int32.toUInt32 31)).toInt32) &&& 858993459)).toUInt32 >>> ((4 : Int32).toUInt32 &&& Int32.toUInt32 31)).toInt32)) &&& 252645135) + (((((((a0 - (((a0.toUInt32 >>> ((1 : Int32).toUInt32 &&& Int32.toUInt32 31)).toInt32) &&& 1431655765)) &&& 858993459) + ((((a0 - (((a0.toUInt32 >>> ((1 : Int32).toUInt32 &&& Int32.toUInt32 31)).toInt32) &&& 1431655765)).toUInt32 >>> ((2 : Int32).toUInt32 &&& Int32.toUInt32 31)).toInt32) &&& 858993459)) + (((((a0 - (((a0.toUInt32 >>> ((1 : Int32).toUInt32 &&& Int32.toUInt32 31)).toInt32) &&& 1431655765)) &&& 858993459) + ((((a0 - (((a0.toUInt32 >>> ((1 : Int32).toUInt32 &&& Int32.toUInt32 31)).toInt32) &&& 1431655765)).toUInt32 >>> ((2 : Int32).toUInt32 &&& Int32.toUInt32 31)).toInt32) &&& 858993459)).toUInt32 >>> ((4 : Int32).toUInt32 &&& Int32.toUInt32 31)).toInt32)) &&& 252645135).toUInt32 >>> ((8 : Int32).toUInt32 &&& Int32.toUInt32 31)).toInt32)).toUInt32 >>> ((16 : Int32).toUInt32 &&& Int32.toUInt32 31)).toInt32)) &&& 63)) = some r := hf
  refine lv_iload_n hx hb dJ16_bitCount_0 rfl (lv_at hl 0 rfl) ?_
  refine lv_iload_n hx hb dJ16_bitCount_1 rfl (lv_at hl 0 rfl) ?_
  refine lv_iconst (v := 1) hx hb dJ16_bitCount_2 (by decide) ?_
  refine lv_iushr (v := (a0.toUInt32 >>> ((1 : Int32).toUInt32 &&& Int32.toUInt32 31)).toInt32) hx hb dJ16_bitCount_3 rfl ?_
  refine lv_ldcw (v := 1431655765) hx hb hown (hts _ q935) dJ16_bitCount_4 ?_
  refine lv_iand hx hb dJ16_bitCount_7 ?_
  refine lv_isub hx hb dJ16_bitCount_8 ?_
  refine lv_istore_n (lv' := [(0, .int (a0 - (((a0.toUInt32 >>> ((1 : Int32).toUInt32 &&& Int32.toUInt32 31)).toInt32) &&& 1431655765)))]) hx hb dJ16_bitCount_9 rfl hl (by decide) rfl (fun ls hl => ?_)
  refine lv_iload_n hx hb dJ16_bitCount_10 rfl (lv_at hl 0 rfl) ?_
  refine lv_ldcw (v := 858993459) hx hb hown (hts _ q936) dJ16_bitCount_11 ?_
  refine lv_iand hx hb dJ16_bitCount_14 ?_
  refine lv_iload_n hx hb dJ16_bitCount_15 rfl (lv_at hl 0 rfl) ?_
  refine lv_iconst (v := 2) hx hb dJ16_bitCount_16 (by decide) ?_
  refine lv_iushr (v := ((a0 - (((a0.toUInt32 >>> ((1 : Int32).toUInt32 &&& Int32.toUInt32 31)).toInt32) &&& 1431655765)).toUInt32 >>> ((2 : Int32).toUInt32 &&& Int32.toUInt32 31)).toInt32) hx hb dJ16_bitCount_17 rfl ?_
  refine lv_ldcw (v := 858993459) hx hb hown (hts _ q936) dJ16_bitCount_18 ?_
  refine lv_iand hx hb dJ16_bitCount_21 ?_
  refine lv_iadd hx hb dJ16_bitCount_22 ?_
  refine lv_istore_n (lv' := [(0, .int (((a0 - (((a0.toUInt32 >>> ((1 : Int32).toUInt32 &&& Int32.toUInt32 31)).toInt32) &&& 1431655765)) &&& 858993459) + ((((a0 - (((a0.toUInt32 >>> ((1 : Int32).toUInt32 &&& Int32.toUInt32 31)).toInt32) &&& 1431655765)).toUInt32 >>> ((2 : Int32).toUInt32 &&& Int32.toUInt32 31)).toInt32) &&& 858993459)))]) hx hb dJ16_bitCount_23 rfl hl (by decide) rfl (fun ls hl => ?_)
  refine lv_iload_n hx hb dJ16_bitCount_24 rfl (lv_at hl 0 rfl) ?_
  refine lv_iload_n hx hb dJ16_bitCount_25 rfl (lv_at hl 0 rfl) ?_
  refine lv_iconst (v := 4) hx hb dJ16_bitCount_26 (by decide) ?_
  refine lv_iushr (v := ((((a0 - (((a0.toUInt32 >>> ((1 : Int32).toUInt32 &&& Int32.toUInt32 31)).toInt32) &&& 1431655765)) &&& 858993459) + ((((a0 - (((a0.toUInt32 >>> ((1 : Int32).toUInt32 &&& Int32.toUInt32 31)).toInt32) &&& 1431655765)).toUInt32 >>> ((2 : Int32).toUInt32 &&& Int32.toUInt32 31)).toInt32) &&& 858993459)).toUInt32 >>> ((4 : Int32).toUInt32 &&& Int32.toUInt32 31)).toInt32) hx hb dJ16_bitCount_27 rfl ?_
  refine lv_iadd hx hb dJ16_bitCount_28 ?_
  refine lv_ldcw (v := 252645135) hx hb hown (hts _ q937) dJ16_bitCount_29 ?_
  refine lv_iand hx hb dJ16_bitCount_32 ?_
  refine lv_istore_n (lv' := [(0, .int (((((a0 - (((a0.toUInt32 >>> ((1 : Int32).toUInt32 &&& Int32.toUInt32 31)).toInt32) &&& 1431655765)) &&& 858993459) + ((((a0 - (((a0.toUInt32 >>> ((1 : Int32).toUInt32 &&& Int32.toUInt32 31)).toInt32) &&& 1431655765)).toUInt32 >>> ((2 : Int32).toUInt32 &&& Int32.toUInt32 31)).toInt32) &&& 858993459)) + (((((a0 - (((a0.toUInt32 >>> ((1 : Int32).toUInt32 &&& Int32.toUInt32 31)).toInt32) &&& 1431655765)) &&& 858993459) + ((((a0 - (((a0.toUInt32 >>> ((1 : Int32).toUInt32 &&& Int32.toUInt32 31)).toInt32) &&& 1431655765)).toUInt32 >>> ((2 : Int32).toUInt32 &&& Int32.toUInt32 31)).toInt32) &&& 858993459)).toUInt32 >>> ((4 : Int32).toUInt32 &&& Int32.toUInt32 31)).toInt32)) &&& 252645135))]) hx hb dJ16_bitCount_33 rfl hl (by decide) rfl (fun ls hl => ?_)
  refine lv_iload_n hx hb dJ16_bitCount_34 rfl (lv_at hl 0 rfl) ?_
  refine lv_iload_n hx hb dJ16_bitCount_35 rfl (lv_at hl 0 rfl) ?_
  refine lv_bipush (v := 8) hx hb dJ16_bitCount_36 (by decide) ?_
  refine lv_iushr (v := ((((((a0 - (((a0.toUInt32 >>> ((1 : Int32).toUInt32 &&& Int32.toUInt32 31)).toInt32) &&& 1431655765)) &&& 858993459) + ((((a0 - (((a0.toUInt32 >>> ((1 : Int32).toUInt32 &&& Int32.toUInt32 31)).toInt32) &&& 1431655765)).toUInt32 >>> ((2 : Int32).toUInt32 &&& Int32.toUInt32 31)).toInt32) &&& 858993459)) + (((((a0 - (((a0.toUInt32 >>> ((1 : Int32).toUInt32 &&& Int32.toUInt32 31)).toInt32) &&& 1431655765)) &&& 858993459) + ((((a0 - (((a0.toUInt32 >>> ((1 : Int32).toUInt32 &&& Int32.toUInt32 31)).toInt32) &&& 1431655765)).toUInt32 >>> ((2 : Int32).toUInt32 &&& Int32.toUInt32 31)).toInt32) &&& 858993459)).toUInt32 >>> ((4 : Int32).toUInt32 &&& Int32.toUInt32 31)).toInt32)) &&& 252645135).toUInt32 >>> ((8 : Int32).toUInt32 &&& Int32.toUInt32 31)).toInt32) hx hb dJ16_bitCount_38 rfl ?_
  refine lv_iadd hx hb dJ16_bitCount_39 ?_
  refine lv_istore_n (lv' := [(0, .int ((((((a0 - (((a0.toUInt32 >>> ((1 : Int32).toUInt32 &&& Int32.toUInt32 31)).toInt32) &&& 1431655765)) &&& 858993459) + ((((a0 - (((a0.toUInt32 >>> ((1 : Int32).toUInt32 &&& Int32.toUInt32 31)).toInt32) &&& 1431655765)).toUInt32 >>> ((2 : Int32).toUInt32 &&& Int32.toUInt32 31)).toInt32) &&& 858993459)) + (((((a0 - (((a0.toUInt32 >>> ((1 : Int32).toUInt32 &&& Int32.toUInt32 31)).toInt32) &&& 1431655765)) &&& 858993459) + ((((a0 - (((a0.toUInt32 >>> ((1 : Int32).toUInt32 &&& Int32.toUInt32 31)).toInt32) &&& 1431655765)).toUInt32 >>> ((2 : Int32).toUInt32 &&& Int32.toUInt32 31)).toInt32) &&& 858993459)).toUInt32 >>> ((4 : Int32).toUInt32 &&& Int32.toUInt32 31)).toInt32)) &&& 252645135) + (((((((a0 - (((a0.toUInt32 >>> ((1 : Int32).toUInt32 &&& Int32.toUInt32 31)).toInt32) &&& 1431655765)) &&& 858993459) + ((((a0 - (((a0.toUInt32 >>> ((1 : Int32).toUInt32 &&& Int32.toUInt32 31)).toInt32) &&& 1431655765)).toUInt32 >>> ((2 : Int32).toUInt32 &&& Int32.toUInt32 31)).toInt32) &&& 858993459)) + (((((a0 - (((a0.toUInt32 >>> ((1 : Int32).toUInt32 &&& Int32.toUInt32 31)).toInt32) &&& 1431655765)) &&& 858993459) + ((((a0 - (((a0.toUInt32 >>> ((1 : Int32).toUInt32 &&& Int32.toUInt32 31)).toInt32) &&& 1431655765)).toUInt32 >>> ((2 : Int32).toUInt32 &&& Int32.toUInt32 31)).toInt32) &&& 858993459)).toUInt32 >>> ((4 : Int32).toUInt32 &&& Int32.toUInt32 31)).toInt32)) &&& 252645135).toUInt32 >>> ((8 : Int32).toUInt32 &&& Int32.toUInt32 31)).toInt32)))]) hx hb dJ16_bitCount_40 rfl hl (by decide) rfl (fun ls hl => ?_)
  refine lv_iload_n hx hb dJ16_bitCount_41 rfl (lv_at hl 0 rfl) ?_
  refine lv_iload_n hx hb dJ16_bitCount_42 rfl (lv_at hl 0 rfl) ?_
  refine lv_bipush (v := 16) hx hb dJ16_bitCount_43 (by decide) ?_
  refine lv_iushr (v := (((((((a0 - (((a0.toUInt32 >>> ((1 : Int32).toUInt32 &&& Int32.toUInt32 31)).toInt32) &&& 1431655765)) &&& 858993459) + ((((a0 - (((a0.toUInt32 >>> ((1 : Int32).toUInt32 &&& Int32.toUInt32 31)).toInt32) &&& 1431655765)).toUInt32 >>> ((2 : Int32).toUInt32 &&& Int32.toUInt32 31)).toInt32) &&& 858993459)) + (((((a0 - (((a0.toUInt32 >>> ((1 : Int32).toUInt32 &&& Int32.toUInt32 31)).toInt32) &&& 1431655765)) &&& 858993459) + ((((a0 - (((a0.toUInt32 >>> ((1 : Int32).toUInt32 &&& Int32.toUInt32 31)).toInt32) &&& 1431655765)).toUInt32 >>> ((2 : Int32).toUInt32 &&& Int32.toUInt32 31)).toInt32) &&& 858993459)).toUInt32 >>> ((4 : Int32).toUInt32 &&& Int32.toUInt32 31)).toInt32)) &&& 252645135) + (((((((a0 - (((a0.toUInt32 >>> ((1 : Int32).toUInt32 &&& Int32.toUInt32 31)).toInt32) &&& 1431655765)) &&& 858993459) + ((((a0 - (((a0.toUInt32 >>> ((1 : Int32).toUInt32 &&& Int32.toUInt32 31)).toInt32) &&& 1431655765)).toUInt32 >>> ((2 : Int32).toUInt32 &&& Int32.toUInt32 31)).toInt32) &&& 858993459)) + (((((a0 - (((a0.toUInt32 >>> ((1 : Int32).toUInt32 &&& Int32.toUInt32 31)).toInt32) &&& 1431655765)) &&& 858993459) + ((((a0 - (((a0.toUInt32 >>> ((1 : Int32).toUInt32 &&& Int32.toUInt32 31)).toInt32) &&& 1431655765)).toUInt32 >>> ((2 : Int32).toUInt32 &&& Int32.toUInt32 31)).toInt32) &&& 858993459)).toUInt32 >>> ((4 : Int32).toUInt32 &&& Int32.toUInt32 31)).toInt32)) &&& 252645135).toUInt32 >>> ((8 : Int32).toUInt32 &&& Int32.toUInt32 31)).toInt32)).toUInt32 >>> ((16 : Int32).toUInt32 &&& Int32.toUInt32 31)).toInt32) hx hb dJ16_bitCount_45 rfl ?_
  refine lv_iadd hx hb dJ16_bitCount_46 ?_
  refine lv_istore_n (lv' := [(0, .int (((((((a0 - (((a0.toUInt32 >>> ((1 : Int32).toUInt32 &&& Int32.toUInt32 31)).toInt32) &&& 1431655765)) &&& 858993459) + ((((a0 - (((a0.toUInt32 >>> ((1 : Int32).toUInt32 &&& Int32.toUInt32 31)).toInt32) &&& 1431655765)).toUInt32 >>> ((2 : Int32).toUInt32 &&& Int32.toUInt32 31)).toInt32) &&& 858993459)) + (((((a0 - (((a0.toUInt32 >>> ((1 : Int32).toUInt32 &&& Int32.toUInt32 31)).toInt32) &&& 1431655765)) &&& 858993459) + ((((a0 - (((a0.toUInt32 >>> ((1 : Int32).toUInt32 &&& Int32.toUInt32 31)).toInt32) &&& 1431655765)).toUInt32 >>> ((2 : Int32).toUInt32 &&& Int32.toUInt32 31)).toInt32) &&& 858993459)).toUInt32 >>> ((4 : Int32).toUInt32 &&& Int32.toUInt32 31)).toInt32)) &&& 252645135) + (((((((a0 - (((a0.toUInt32 >>> ((1 : Int32).toUInt32 &&& Int32.toUInt32 31)).toInt32) &&& 1431655765)) &&& 858993459) + ((((a0 - (((a0.toUInt32 >>> ((1 : Int32).toUInt32 &&& Int32.toUInt32 31)).toInt32) &&& 1431655765)).toUInt32 >>> ((2 : Int32).toUInt32 &&& Int32.toUInt32 31)).toInt32) &&& 858993459)) + (((((a0 - (((a0.toUInt32 >>> ((1 : Int32).toUInt32 &&& Int32.toUInt32 31)).toInt32) &&& 1431655765)) &&& 858993459) + ((((a0 - (((a0.toUInt32 >>> ((1 : Int32).toUInt32 &&& Int32.toUInt32 31)).toInt32) &&& 1431655765)).toUInt32 >>> ((2 : Int32).toUInt32 &&& Int32.toUInt32 31)).toInt32) &&& 858993459)).toUInt32 >>> ((4 : Int32).toUInt32 &&& Int32.toUInt32 31)).toInt32)) &&& 252645135).toUInt32 >>> ((8 : Int32).toUInt32 &&& Int32.toUInt32 31)).toInt32)) + ((((((((a0 - (((a0.toUInt32 >>> ((1 : Int32).toUInt32 &&& Int32.toUInt32 31)).toInt32) &&& 1431655765)) &&& 858993459) + ((((a0 - (((a0.toUInt32 >>> ((1 : Int32).toUInt32 &&& Int32.toUInt32 31)).toInt32) &&& 1431655765)).toUInt32 >>> ((2 : Int32).toUInt32 &&& Int32.toUInt32 31)).toInt32) &&& 858993459)) + (((((a0 - (((a0.toUInt32 >>> ((1 : Int32).toUInt32 &&& Int32.toUInt32 31)).toInt32) &&& 1431655765)) &&& 858993459) + ((((a0 - (((a0.toUInt32 >>> ((1 : Int32).toUInt32 &&& Int32.toUInt32 31)).toInt32) &&& 1431655765)).toUInt32 >>> ((2 : Int32).toUInt32 &&& Int32.toUInt32 31)).toInt32) &&& 858993459)).toUInt32 >>> ((4 : Int32).toUInt32 &&& Int32.toUInt32 31)).toInt32)) &&& 252645135) + (((((((a0 - (((a0.toUInt32 >>> ((1 : Int32).toUInt32 &&& Int32.toUInt32 31)).toInt32) &&& 1431655765)) &&& 858993459) + ((((a0 - (((a0.toUInt32 >>> ((1 : Int32).toUInt32 &&& Int32.toUInt32 31)).toInt32) &&& 1431655765)).toUInt32 >>> ((2 : Int32).toUInt32 &&& Int32.toUInt32 31)).toInt32) &&& 858993459)) + (((((a0 - (((a0.toUInt32 >>> ((1 : Int32).toUInt32 &&& Int32.toUInt32 31)).toInt32) &&& 1431655765)) &&& 858993459) + ((((a0 - (((a0.toUInt32 >>> ((1 : Int32).toUInt32 &&& Int32.toUInt32 31)).toInt32) &&& 1431655765)).toUInt32 >>> ((2 : Int32).toUInt32 &&& Int32.toUInt32 31)).toInt32) &&& 858993459)).toUInt32 >>> ((4 : Int32).toUInt32 &&& Int32.toUInt32 31)).toInt32)) &&& 252645135).toUInt32 >>> ((8 : Int32).toUInt32 &&& Int32.toUInt32 31)).toInt32)).toUInt32 >>> ((16 : Int32).toUInt32 &&& Int32.toUInt32 31)).toInt32)))]) hx hb dJ16_bitCount_47 rfl hl (by decide) rfl (fun ls hl => ?_)
  refine lv_iload_n hx hb dJ16_bitCount_48 rfl (lv_at hl 0 rfl) ?_
  refine lv_bipush (v := 63) hx hb dJ16_bitCount_49 (by decide) ?_
  refine lv_iand hx hb dJ16_bitCount_51 ?_
  obtain rfl := so1 hf
  exact W.iret hx hb hr (fun t ht _ => ⟨rfl, ht⟩) (fun q hq => by cases hq) dJ16_bitCount_52
theorem ji_bitCount_ds : yJ16_bitCount.cls = RJ16 ∧ yJ16_bitCount.cls ≠ "java/lang/invoke/MethodHandle" ∧ yJ16_bitCount.cls ≠ "java/lang/invoke/VarHandle" ∧ (parseMethodDescriptor yJ16_bitCount.desc).map (fun d => d.parameters.length) = some 1 := by decide +kernel
def ji_numberOfTrailingZeros (a0 : Int32) : Option (Int32) :=
  if 0 < ((a0 ^^^ (-1)) &&& (a0 - 1)) then (ob2 (if ((a0 ^^^ (-1)) &&& (a0 - 1)) ≤ 65536 then ((some ((a0 ^^^ (-1)) &&& (a0 - 1), 1) : Option (Int32 × Int32))) else ((some ((((a0 ^^^ (-1)) &&& (a0 - 1)).toUInt32 >>> ((16 : Int32).toUInt32 &&& Int32.toUInt32 31)).toInt32, 1 + 16) : Option (Int32 × Int32)))) fun (v2 : Int32) (v3 : Int32) =>
    ob2 (if v2 ≤ 256 then ((some (v2, v3) : Option (Int32 × Int32))) else ((some ((v2.toUInt32 >>> ((8 : Int32).toUInt32 &&& Int32.toUInt32 31)).toInt32, v3 + 8) : Option (Int32 × Int32)))) fun (v5 : Int32) (v6 : Int32) =>
    ob2 (if v5 ≤ 16 then ((some (v5, v6) : Option (Int32 × Int32))) else ((some ((v5.toUInt32 >>> ((4 : Int32).toUInt32 &&& Int32.toUInt32 31)).toInt32, v6 + 4) : Option (Int32 × Int32)))) fun (v8 : Int32) (v9 : Int32) =>
    ob2 (if v8 ≤ 4 then ((some (v8, v9) : Option (Int32 × Int32))) else ((some ((v8.toUInt32 >>> ((2 : Int32).toUInt32 &&& Int32.toUInt32 31)).toInt32, v9 + 2) : Option (Int32 × Int32)))) fun (v11 : Int32) (v12 : Int32) =>
    some (v12 + ((v11.toUInt32 >>> ((1 : Int32).toUInt32 &&& Int32.toUInt32 31)).toInt32))) else (some (((a0 ^^^ (-1)) &&& (a0 - 1)) &&& 32))
set_option maxRecDepth 100000 in
set_option maxHeartbeats 4000000 in
theorem ji_numberOfTrailingZeros_met (l : Launch) (D : dd_) (s0 : State) (h0 : ∀ w ∈ lw_tbl, va_Nw w s0) (ad : Nat → Nat) (X : va_W) (base : Nat) (a0 : Int32) (r : Int32) (hf : ji_numberOfTrailingZeros a0 = some r) : Met l yJ16_numberOfTrailingZeros (ws_ yJ16_numberOfTrailingZeros cJ16_numberOfTrailingZeros 2 (some .int)) ({ frames := 1, cells := 0, slots := 0, locals := 32 }) (PcX D s0 nS ad (fun _ => 0) (fun _ _ => 0) nR nG X base [.int a0]) (QcR (some (.int r))) 0 0 (fun _ => False) := by
  refine Met.ofW (cc := cJ16_numberOfTrailingZeros) (maxL := 2) (ret := (some .int)) (by decide) rfl ?_
  intro p e s m args below meth c s₁ B hml hv
  obtain ⟨rfl, hK, hY, hB, hW⟩ := hv
  have hx := B.exec
  have hb := B.bytes
  have hr := B.returns
  have hts := atoms_spec (ws := (ws_ yJ16_numberOfTrailingZeros cJ16_numberOfTrailingZeros 2 (some .int))) B.pre
  have hts : ∀ w ∈ lw_all, w.before _ s = true := fun w h => hts w (List.mem_cons_of_mem _ h)
  have hown : s.vm.findClass RJ16 = some m.cls := findClass_of_methodNamed B.named
  have hlocks := B.notSynchronized
  have hRf : 1 ≤ (headSpec (ws_ yJ16_numberOfTrailingZeros cJ16_numberOfTrailingZeros 2 (some .int)) ({ frames := 1, cells := 0, slots := 0, locals := 32 })).room.frames := Nat.le_refl _
  have hRl : 32 ≤ (headSpec (ws_ yJ16_numberOfTrailingZeros cJ16_numberOfTrailingZeros 2 (some .int)) ({ frames := 1, cells := 0, slots := 0, locals := 32 })).room.locals := Nat.le_refl _
  have hcs : 0 ≤ (headSpec (ws_ yJ16_numberOfTrailingZeros cJ16_numberOfTrailingZeros 2 (some .int)) ({ frames := 1, cells := 0, slots := 0, locals := 32 })).room.cells ∧ 0 ≤ (headSpec (ws_ yJ16_numberOfTrailingZeros cJ16_numberOfTrailingZeros 2 (some .int)) ({ frames := 1, cells := 0, slots := 0, locals := 32 })).room.slots := ⟨Nat.zero_le _, Nat.zero_le _⟩
  have hl := lv_entry ([.int a0]) (n := 2) (Nat.le_of_ble_eq_true rfl)
  rw [lg_entry_eq]
  generalize (lg_sl ([.int a0]) ++ List.replicate (2 - (lg_sl ([.int a0])).length) Slot.unset).toArray = ls at hl ⊢
  have hl : lv_has ls 2 [(0, .int a0)] := hl
  have hf : (if 0 < ((a0 ^^^ (-1)) &&& (a0 - 1)) then (ob2 (if ((a0 ^^^ (-1)) &&& (a0 - 1)) ≤ 65536 then ((some ((a0 ^^^ (-1)) &&& (a0 - 1), 1) : Option (Int32 × Int32))) else ((some ((((a0 ^^^ (-1)) &&& (a0 - 1)).toUInt32 >>> ((16 : Int32).toUInt32 &&& Int32.toUInt32 31)).toInt32, 1 + 16) : Option (Int32 × Int32)))) fun (v2 : Int32) (v3 : Int32) =>
      ob2 (if v2 ≤ 256 then ((some (v2, v3) : Option (Int32 × Int32))) else ((some ((v2.toUInt32 >>> ((8 : Int32).toUInt32 &&& Int32.toUInt32 31)).toInt32, v3 + 8) : Option (Int32 × Int32)))) fun (v5 : Int32) (v6 : Int32) =>
      ob2 (if v5 ≤ 16 then ((some (v5, v6) : Option (Int32 × Int32))) else ((some ((v5.toUInt32 >>> ((4 : Int32).toUInt32 &&& Int32.toUInt32 31)).toInt32, v6 + 4) : Option (Int32 × Int32)))) fun (v8 : Int32) (v9 : Int32) =>
      ob2 (if v8 ≤ 4 then ((some (v8, v9) : Option (Int32 × Int32))) else ((some ((v8.toUInt32 >>> ((2 : Int32).toUInt32 &&& Int32.toUInt32 31)).toInt32, v9 + 2) : Option (Int32 × Int32)))) fun (v11 : Int32) (v12 : Int32) =>
      some (v12 + ((v11.toUInt32 >>> ((1 : Int32).toUInt32 &&& Int32.toUInt32 31)).toInt32))) else (some (((a0 ^^^ (-1)) &&& (a0 - 1)) &&& 32))) = some r := hf
  refine lv_iload_n hx hb dJ16_numberOfTrailingZeros_0 rfl (lv_at hl 0 rfl) ?_
  refine lv_iconst (v := (-1)) hx hb dJ16_numberOfTrailingZeros_1 (by decide) ?_
  refine lv_ixor hx hb dJ16_numberOfTrailingZeros_2 ?_
  refine lv_iload_n hx hb dJ16_numberOfTrailingZeros_3 rfl (lv_at hl 0 rfl) ?_
  refine lv_iconst (v := 1) hx hb dJ16_numberOfTrailingZeros_4 (by decide) ?_
  refine lv_isub hx hb dJ16_numberOfTrailingZeros_5 ?_
  refine lv_iand hx hb dJ16_numberOfTrailingZeros_6 ?_
  refine lv_istore_n (lv' := [(0, .int ((a0 ^^^ (-1)) &&& (a0 - 1)))]) hx hb dJ16_numberOfTrailingZeros_7 rfl hl (by decide) rfl (fun ls hl => ?_)
  refine lv_iload_n hx hb dJ16_numberOfTrailingZeros_8 rfl (lv_at hl 0 rfl) ?_
  refine lv_if_gt (tgt := 17) hx hb dJ16_numberOfTrailingZeros_9 (by decide) (fun c1 => ?_) (fun c1 => ?_)
  · rw [if_pos c1] at hf
    refine lv_iconst (v := 1) hx hb dJ16_numberOfTrailingZeros_17 (by decide) ?_
    refine lv_istore_n (lv' := [(1, .int 1), (0, .int ((a0 ^^^ (-1)) &&& (a0 - 1)))]) hx hb dJ16_numberOfTrailingZeros_18 rfl hl (by decide) rfl (fun ls hl => ?_)
    refine lv_iload_n hx hb dJ16_numberOfTrailingZeros_19 rfl (lv_at hl 1 rfl) ?_
    refine lv_ldcw (v := 65536) hx hb hown (hts _ q963) dJ16_numberOfTrailingZeros_20 ?_
    obtain ⟨v2, v3, hm3, hf⟩ := ob2_e hf
    refine w_cutL (nL := 2) (L := [(0, .int v2), (1, .int v3)]) (pcj := 34) (st := []) (fun ls hl => ?_) (fun K3 => ?_)
    · refine lv_iload_n hx hb dJ16_numberOfTrailingZeros_34 rfl (lv_at hl 0 rfl) ?_
      refine lv_sipush (v := 256) hx hb dJ16_numberOfTrailingZeros_35 (by decide) ?_
      obtain ⟨v5, v6, hm6, hf⟩ := ob2_e hf
      refine w_cutL (nL := 2) (L := [(0, .int v5), (1, .int v6)]) (pcj := 49) (st := []) (fun ls hl => ?_) (fun K6 => ?_)
      · refine lv_iload_n hx hb dJ16_numberOfTrailingZeros_49 rfl (lv_at hl 0 rfl) ?_
        refine lv_bipush (v := 16) hx hb dJ16_numberOfTrailingZeros_50 (by decide) ?_
        obtain ⟨v8, v9, hm9, hf⟩ := ob2_e hf
        refine w_cutL (nL := 2) (L := [(0, .int v8), (1, .int v9)]) (pcj := 62) (st := []) (fun ls hl => ?_) (fun K9 => ?_)
        · refine lv_iload_n hx hb dJ16_numberOfTrailingZeros_62 rfl (lv_at hl 0 rfl) ?_
          refine lv_iconst (v := 4) hx hb dJ16_numberOfTrailingZeros_63 (by decide) ?_
          obtain ⟨v11, v12, hm12, hf⟩ := ob2_e hf
          refine w_cutL (nL := 2) (L := [(0, .int v11), (1, .int v12)]) (pcj := 74) (st := []) (fun ls hl => ?_) (fun K12 => ?_)
          · refine lv_iload_n hx hb dJ16_numberOfTrailingZeros_74 rfl (lv_at hl 1 rfl) ?_
            refine lv_iload_n hx hb dJ16_numberOfTrailingZeros_75 rfl (lv_at hl 0 rfl) ?_
            refine lv_iconst (v := 1) hx hb dJ16_numberOfTrailingZeros_76 (by decide) ?_
            refine lv_iushr (v := (v11.toUInt32 >>> ((1 : Int32).toUInt32 &&& Int32.toUInt32 31)).toInt32) hx hb dJ16_numberOfTrailingZeros_77 rfl ?_
            refine lv_iadd hx hb dJ16_numberOfTrailingZeros_78 ?_
            obtain rfl := so1 hf
            exact W.iret hx hb hr (fun t ht _ => ⟨rfl, ht⟩) (fun q hq => by cases hq) dJ16_numberOfTrailingZeros_79
          · refine lv_icmp_le (tgt := 74) hx hb dJ16_numberOfTrailingZeros_64 (by decide) (fun c13 => ?_) (fun c13 => ?_)
            · rw [if_pos c13] at hm12
              obtain ⟨rfl, rfl⟩ := so2 hm12
              exact K12 ls (lv_sub hl [0, 1] rfl)
            · rw [if_neg c13] at hm12
              refine lv_iinc (v := v9 + 2) (lv' := [(1, .int (v9 + 2)), (0, .int v8)]) hx hb dJ16_numberOfTrailingZeros_67 hl (k := 1) rfl (by rfl) (by decide) rfl (fun ls hl => ?_)
              refine lv_iload_n hx hb dJ16_numberOfTrailingZeros_70 rfl (lv_at hl 1 rfl) ?_
              refine lv_iconst (v := 2) hx hb dJ16_numberOfTrailingZeros_71 (by decide) ?_
              refine lv_iushr (v := (v8.toUInt32 >>> ((2 : Int32).toUInt32 &&& Int32.toUInt32 31)).toInt32) hx hb dJ16_numberOfTrailingZeros_72 rfl ?_
              refine lv_istore_n (lv' := [(0, .int ((v8.toUInt32 >>> ((2 : Int32).toUInt32 &&& Int32.toUInt32 31)).toInt32)), (1, .int (v9 + 2))]) hx hb dJ16_numberOfTrailingZeros_73 rfl hl (by decide) rfl (fun ls hl => ?_)
              obtain ⟨rfl, rfl⟩ := so2 hm12
              exact K12 ls (lv_sub hl [0, 1] rfl)
        · refine lv_icmp_le (tgt := 62) hx hb dJ16_numberOfTrailingZeros_52 (by decide) (fun c10 => ?_) (fun c10 => ?_)
          · rw [if_pos c10] at hm9
            obtain ⟨rfl, rfl⟩ := so2 hm9
            exact K9 ls (lv_sub hl [0, 1] rfl)
          · rw [if_neg c10] at hm9
            refine lv_iinc (v := v6 + 4) (lv' := [(1, .int (v6 + 4)), (0, .int v5)]) hx hb dJ16_numberOfTrailingZeros_55 hl (k := 1) rfl (by rfl) (by decide) rfl (fun ls hl => ?_)
            refine lv_iload_n hx hb dJ16_numberOfTrailingZeros_58 rfl (lv_at hl 1 rfl) ?_
            refine lv_iconst (v := 4) hx hb dJ16_numberOfTrailingZeros_59 (by decide) ?_
            refine lv_iushr (v := (v5.toUInt32 >>> ((4 : Int32).toUInt32 &&& Int32.toUInt32 31)).toInt32) hx hb dJ16_numberOfTrailingZeros_60 rfl ?_
            refine lv_istore_n (lv' := [(0, .int ((v5.toUInt32 >>> ((4 : Int32).toUInt32 &&& Int32.toUInt32 31)).toInt32)), (1, .int (v6 + 4))]) hx hb dJ16_numberOfTrailingZeros_61 rfl hl (by decide) rfl (fun ls hl => ?_)
            obtain ⟨rfl, rfl⟩ := so2 hm9
            exact K9 ls (lv_sub hl [0, 1] rfl)
      · refine lv_icmp_le (tgt := 49) hx hb dJ16_numberOfTrailingZeros_38 (by decide) (fun c7 => ?_) (fun c7 => ?_)
        · rw [if_pos c7] at hm6
          obtain ⟨rfl, rfl⟩ := so2 hm6
          exact K6 ls (lv_sub hl [0, 1] rfl)
        · rw [if_neg c7] at hm6
          refine lv_iinc (v := v3 + 8) (lv' := [(1, .int (v3 + 8)), (0, .int v2)]) hx hb dJ16_numberOfTrailingZeros_41 hl (k := 1) rfl (by rfl) (by decide) rfl (fun ls hl => ?_)
          refine lv_iload_n hx hb dJ16_numberOfTrailingZeros_44 rfl (lv_at hl 1 rfl) ?_
          refine lv_bipush (v := 8) hx hb dJ16_numberOfTrailingZeros_45 (by decide) ?_
          refine lv_iushr (v := (v2.toUInt32 >>> ((8 : Int32).toUInt32 &&& Int32.toUInt32 31)).toInt32) hx hb dJ16_numberOfTrailingZeros_47 rfl ?_
          refine lv_istore_n (lv' := [(0, .int ((v2.toUInt32 >>> ((8 : Int32).toUInt32 &&& Int32.toUInt32 31)).toInt32)), (1, .int (v3 + 8))]) hx hb dJ16_numberOfTrailingZeros_48 rfl hl (by decide) rfl (fun ls hl => ?_)
          obtain ⟨rfl, rfl⟩ := so2 hm6
          exact K6 ls (lv_sub hl [0, 1] rfl)
    · refine lv_icmp_le (tgt := 34) hx hb dJ16_numberOfTrailingZeros_23 (by decide) (fun c4 => ?_) (fun c4 => ?_)
      · rw [if_pos c4] at hm3
        obtain ⟨rfl, rfl⟩ := so2 hm3
        exact K3 ls (lv_sub hl [1, 0] rfl)
      · rw [if_neg c4] at hm3
        refine lv_iinc (v := 1 + 16) (lv' := [(1, .int (1 + 16)), (0, .int ((a0 ^^^ (-1)) &&& (a0 - 1)))]) hx hb dJ16_numberOfTrailingZeros_26 hl (k := 0) rfl (by rfl) (by decide) rfl (fun ls hl => ?_)
        refine lv_iload_n hx hb dJ16_numberOfTrailingZeros_29 rfl (lv_at hl 1 rfl) ?_
        refine lv_bipush (v := 16) hx hb dJ16_numberOfTrailingZeros_30 (by decide) ?_
        refine lv_iushr (v := (((a0 ^^^ (-1)) &&& (a0 - 1)).toUInt32 >>> ((16 : Int32).toUInt32 &&& Int32.toUInt32 31)).toInt32) hx hb dJ16_numberOfTrailingZeros_32 rfl ?_
        refine lv_istore_n (lv' := [(0, .int ((((a0 ^^^ (-1)) &&& (a0 - 1)).toUInt32 >>> ((16 : Int32).toUInt32 &&& Int32.toUInt32 31)).toInt32)), (1, .int (1 + 16))]) hx hb dJ16_numberOfTrailingZeros_33 rfl hl (by decide) rfl (fun ls hl => ?_)
        obtain ⟨rfl, rfl⟩ := so2 hm3
        exact K3 ls (lv_sub hl [0, 1] rfl)
  · rw [if_neg c1] at hf
    refine lv_iload_n hx hb dJ16_numberOfTrailingZeros_12 rfl (lv_at hl 0 rfl) ?_
    refine lv_bipush (v := 32) hx hb dJ16_numberOfTrailingZeros_13 (by decide) ?_
    refine lv_iand hx hb dJ16_numberOfTrailingZeros_15 ?_
    obtain rfl := so1 hf
    exact W.iret hx hb hr (fun t ht _ => ⟨rfl, ht⟩) (fun q hq => by cases hq) dJ16_numberOfTrailingZeros_16
theorem ji_numberOfTrailingZeros_ds : yJ16_numberOfTrailingZeros.cls = RJ16 ∧ yJ16_numberOfTrailingZeros.cls ≠ "java/lang/invoke/MethodHandle" ∧ yJ16_numberOfTrailingZeros.cls ≠ "java/lang/invoke/VarHandle" ∧ (parseMethodDescriptor yJ16_numberOfTrailingZeros.desc).map (fun d => d.parameters.length) = some 1 := by decide +kernel
def x_isIn (a0 : Int64) (a1 : Int64) (a2 : Int64) : Option (Int32) :=
  ob1 (if (lg_cmp a0 a1) < 0 then ((some 0 : Option (Int32))) else (if 0 < (lg_cmp a0 a2) then ((some 0 : Option (Int32))) else ((some 1 : Option (Int32))))) fun (v1 : Int32) =>
  zO v1
set_option maxRecDepth 100000 in
set_option maxHeartbeats 4000000 in
theorem x_isIn_met (l : Launch) (D : dd_) (s0 : State) (h0 : ∀ w ∈ lw_tbl, va_Nw w s0) (ad : Nat → Nat) (X : va_W) (base : Nat) (a0 : Int64) (a1 : Int64) (a2 : Int64) (r : Int32) (hf : x_isIn a0 a1 a2 = some r) : Met l yX0_isIn (ws_ yX0_isIn cX0_isIn 6 (some .boolean)) ({ frames := 1, cells := 0, slots := 0, locals := 32 }) (PcX D s0 nS ad (fun _ => 0) (fun _ _ => 0) nR nG X base [.long a0, .long a1, .long a2]) (QcR (some (.int r))) 0 0 (fun _ => False) := by
  refine Met.ofW (cc := cX0_isIn) (maxL := 6) (ret := (some .boolean)) (by decide) rfl ?_
  intro p e s m args below meth c s₁ B hml hv
  obtain ⟨rfl, hK, hY, hB, hW⟩ := hv
  have hx := B.exec
  have hb := B.bytes
  have hr := B.returns
  have hts := atoms_spec (ws := (ws_ yX0_isIn cX0_isIn 6 (some .boolean))) B.pre
  have hts : ∀ w ∈ lw_all, w.before _ s = true := fun w h => hts w (List.mem_cons_of_mem _ h)
  have hown : s.vm.findClass RX0 = some m.cls := findClass_of_methodNamed B.named
  have hlocks := B.notSynchronized
  have hRf : 1 ≤ (headSpec (ws_ yX0_isIn cX0_isIn 6 (some .boolean)) ({ frames := 1, cells := 0, slots := 0, locals := 32 })).room.frames := Nat.le_refl _
  have hRl : 32 ≤ (headSpec (ws_ yX0_isIn cX0_isIn 6 (some .boolean)) ({ frames := 1, cells := 0, slots := 0, locals := 32 })).room.locals := Nat.le_refl _
  have hcs : 0 ≤ (headSpec (ws_ yX0_isIn cX0_isIn 6 (some .boolean)) ({ frames := 1, cells := 0, slots := 0, locals := 32 })).room.cells ∧ 0 ≤ (headSpec (ws_ yX0_isIn cX0_isIn 6 (some .boolean)) ({ frames := 1, cells := 0, slots := 0, locals := 32 })).room.slots := ⟨Nat.zero_le _, Nat.zero_le _⟩
  have hl := lv_entry ([.long a0, .long a1, .long a2]) (n := 6) (Nat.le_of_ble_eq_true rfl)
  rw [lg_entry_eq]
  generalize (lg_sl ([.long a0, .long a1, .long a2]) ++ List.replicate (6 - (lg_sl ([.long a0, .long a1, .long a2])).length) Slot.unset).toArray = ls at hl ⊢
  have hl : lv_has ls 6 [(0, .long a0), (2, .long a1), (4, .long a2)] := hl
  have hf : (ob1 (if (lg_cmp a0 a1) < 0 then ((some 0 : Option (Int32))) else (if 0 < (lg_cmp a0 a2) then ((some 0 : Option (Int32))) else ((some 1 : Option (Int32))))) fun (v1 : Int32) =>
    zO v1) = some r := hf
  refine lv_lload_n hx hb dX0_isIn_0 rfl (lv_at hl 0 rfl) ?_
  refine lv_lload_n hx hb dX0_isIn_1 rfl (lv_at hl 1 rfl) ?_
  refine W.lcmp hx hb dX0_isIn_2 ?_
  obtain ⟨v1, hm1, hf⟩ := ob1_e hf
  refine w_cutL (nL := 6) (L := []) (pcj := 18) (st := [.int v1]) (fun ls hl => ?_) (fun K1 => ?_)
  · obtain ⟨hz, rfl⟩ := zO_e hf
    exact W.zret hx hb hr (nar_z hz) (fun t ht _ => ⟨rfl, ht⟩) (fun q hq => by cases hq) dX0_isIn_18
  · refine lv_if_lt (tgt := 17) hx hb dX0_isIn_3 (by decide) (fun c2 => ?_) (fun c2 => ?_)
    · rw [if_pos c2] at hm1
      refine lv_iconst (v := 0) hx hb dX0_isIn_17 (by decide) ?_
      obtain rfl := so1 hm1
      exact K1 ls (lv_sub hl [] rfl)
    · rw [if_neg c2] at hm1
      refine lv_lload_n hx hb dX0_isIn_6 rfl (lv_at hl 0 rfl) ?_
      refine lv_lload hx hb dX0_isIn_7 (lv_at hl 2 rfl) ?_
      refine W.lcmp hx hb dX0_isIn_9 ?_
      refine lv_if_gt (tgt := 17) hx hb dX0_isIn_10 (by decide) (fun c3 => ?_) (fun c3 => ?_)
      · rw [if_pos c3] at hm1
        refine lv_iconst (v := 0) hx hb dX0_isIn_17 (by decide) ?_
        obtain rfl := so1 hm1
        exact K1 ls (lv_sub hl [] rfl)
      · rw [if_neg c3] at hm1
        refine lv_iconst (v := 1) hx hb dX0_isIn_13 (by decide) ?_
        refine lv_goto (tgt := 18) hx hb dX0_isIn_14 (by decide) ?_
        obtain rfl := so1 hm1
        exact K1 ls (lv_sub hl [] rfl)
theorem x_isIn_ds : yX0_isIn.cls = RX0 ∧ yX0_isIn.cls ≠ "java/lang/invoke/MethodHandle" ∧ yX0_isIn.cls ≠ "java/lang/invoke/VarHandle" ∧ (parseMethodDescriptor yX0_isIn.desc).map (fun d => d.parameters.length) = some 3 := by decide +kernel
def x_has (a0 : Int32) (a1 : Int32) : Option (Int32) :=
  ob1 (if ((a0 >>> (a1 &&& 31)) &&& 1) = 1 then ((some 1 : Option (Int32))) else ((some 0 : Option (Int32)))) fun (v1 : Int32) =>
  zO v1
set_option maxRecDepth 100000 in
set_option maxHeartbeats 4000000 in
theorem x_has_met (l : Launch) (D : dd_) (s0 : State) (h0 : ∀ w ∈ lw_tbl, va_Nw w s0) (ad : Nat → Nat) (X : va_W) (base : Nat) (a0 : Int32) (a1 : Int32) (r : Int32) (hf : x_has a0 a1 = some r) : Met l yX0_has (ws_ yX0_has cX0_has 2 (some .boolean)) ({ frames := 1, cells := 0, slots := 0, locals := 32 }) (PcX D s0 nS ad (fun _ => 0) (fun _ _ => 0) nR nG X base [.int a0, .int a1]) (QcR (some (.int r))) 0 0 (fun _ => False) := by
  refine Met.ofW (cc := cX0_has) (maxL := 2) (ret := (some .boolean)) (by decide) rfl ?_
  intro p e s m args below meth c s₁ B hml hv
  obtain ⟨rfl, hK, hY, hB, hW⟩ := hv
  have hx := B.exec
  have hb := B.bytes
  have hr := B.returns
  have hts := atoms_spec (ws := (ws_ yX0_has cX0_has 2 (some .boolean))) B.pre
  have hts : ∀ w ∈ lw_all, w.before _ s = true := fun w h => hts w (List.mem_cons_of_mem _ h)
  have hown : s.vm.findClass RX0 = some m.cls := findClass_of_methodNamed B.named
  have hlocks := B.notSynchronized
  have hRf : 1 ≤ (headSpec (ws_ yX0_has cX0_has 2 (some .boolean)) ({ frames := 1, cells := 0, slots := 0, locals := 32 })).room.frames := Nat.le_refl _
  have hRl : 32 ≤ (headSpec (ws_ yX0_has cX0_has 2 (some .boolean)) ({ frames := 1, cells := 0, slots := 0, locals := 32 })).room.locals := Nat.le_refl _
  have hcs : 0 ≤ (headSpec (ws_ yX0_has cX0_has 2 (some .boolean)) ({ frames := 1, cells := 0, slots := 0, locals := 32 })).room.cells ∧ 0 ≤ (headSpec (ws_ yX0_has cX0_has 2 (some .boolean)) ({ frames := 1, cells := 0, slots := 0, locals := 32 })).room.slots := ⟨Nat.zero_le _, Nat.zero_le _⟩
  have hl := lv_entry ([.int a0, .int a1]) (n := 2) (Nat.le_of_ble_eq_true rfl)
  rw [lg_entry_eq]
  generalize (lg_sl ([.int a0, .int a1]) ++ List.replicate (2 - (lg_sl ([.int a0, .int a1])).length) Slot.unset).toArray = ls at hl ⊢
  have hl : lv_has ls 2 [(0, .int a0), (1, .int a1)] := hl
  have hf : (ob1 (if ((a0 >>> (a1 &&& 31)) &&& 1) = 1 then ((some 1 : Option (Int32))) else ((some 0 : Option (Int32)))) fun (v1 : Int32) =>
    zO v1) = some r := hf
  refine lv_iload_n hx hb dX0_has_0 rfl (lv_at hl 0 rfl) ?_
  refine lv_iload_n hx hb dX0_has_1 rfl (lv_at hl 1 rfl) ?_
  refine lv_ishr hx hb dX0_has_2 ?_
  refine lv_iconst (v := 1) hx hb dX0_has_3 (by decide) ?_
  refine lv_iand hx hb dX0_has_4 ?_
  refine lv_iconst (v := 1) hx hb dX0_has_5 (by decide) ?_
  obtain ⟨v1, hm1, hf⟩ := ob1_e hf
  refine w_cutL (nL := 2) (L := []) (pcj := 14) (st := [.int v1]) (fun ls hl => ?_) (fun K1 => ?_)
  · obtain ⟨hz, rfl⟩ := zO_e hf
    exact W.zret hx hb hr (nar_z hz) (fun t ht _ => ⟨rfl, ht⟩) (fun q hq => by cases hq) dX0_has_14
  · refine lv_icmp_ne (tgt := 13) hx hb dX0_has_6 (by decide) (fun c2 => ?_) (fun c2 => ?_)
    · rw [if_neg c2] at hm1
      refine lv_iconst (v := 0) hx hb dX0_has_13 (by decide) ?_
      obtain rfl := so1 hm1
      exact K1 ls (lv_sub hl [] rfl)
    · rw [if_pos c2] at hm1
      refine lv_iconst (v := 1) hx hb dX0_has_9 (by decide) ?_
      refine lv_goto (tgt := 14) hx hb dX0_has_10 (by decide) ?_
      obtain rfl := so1 hm1
      exact K1 ls (lv_sub hl [] rfl)
theorem x_has_ds : yX0_has.cls = RX0 ∧ yX0_has.cls ≠ "java/lang/invoke/MethodHandle" ∧ yX0_has.cls ≠ "java/lang/invoke/VarHandle" ∧ (parseMethodDescriptor yX0_has.desc).map (fun d => d.parameters.length) = some 2 := by decide +kernel
def x_isRow (a0 : Int32) : Option (Int32) :=
  ob1 (x_isIn a0.toInt64 0 7) fun (v1 : Int32) =>
  zO v1
set_option maxRecDepth 100000 in
set_option maxHeartbeats 4000000 in
theorem x_isRow_met (l : Launch) (D : dd_) (s0 : State) (h0 : ∀ w ∈ lw_tbl, va_Nw w s0) (ad : Nat → Nat) (X : va_W) (base : Nat) (a0 : Int32) (r : Int32) (hf : x_isRow a0 = some r) : Met l yX0_isRow (ws_ yX0_isRow cX0_isRow 1 (some .boolean)) ({ frames := 2, cells := 0, slots := 0, locals := 57 }) (PcX D s0 nS ad (fun _ => 0) (fun _ _ => 0) nR nG X base [.int a0]) (QcR (some (.int r))) 0 0 (fun _ => False) := by
  refine Met.ofW (cc := cX0_isRow) (maxL := 1) (ret := (some .boolean)) (by decide) rfl ?_
  intro p e s m args below meth c s₁ B hml hv
  obtain ⟨rfl, hK, hY, hB, hW⟩ := hv
  have hx := B.exec
  have hb := B.bytes
  have hr := B.returns
  have hts := atoms_spec (ws := (ws_ yX0_isRow cX0_isRow 1 (some .boolean))) B.pre
  have hts : ∀ w ∈ lw_all, w.before _ s = true := fun w h => hts w (List.mem_cons_of_mem _ h)
  have hown : s.vm.findClass RX0 = some m.cls := findClass_of_methodNamed B.named
  have hlocks := B.notSynchronized
  have hRf : 2 ≤ (headSpec (ws_ yX0_isRow cX0_isRow 1 (some .boolean)) ({ frames := 2, cells := 0, slots := 0, locals := 57 })).room.frames := Nat.le_refl _
  have hRl : 57 ≤ (headSpec (ws_ yX0_isRow cX0_isRow 1 (some .boolean)) ({ frames := 2, cells := 0, slots := 0, locals := 57 })).room.locals := Nat.le_refl _
  have hcs : 0 ≤ (headSpec (ws_ yX0_isRow cX0_isRow 1 (some .boolean)) ({ frames := 2, cells := 0, slots := 0, locals := 57 })).room.cells ∧ 0 ≤ (headSpec (ws_ yX0_isRow cX0_isRow 1 (some .boolean)) ({ frames := 2, cells := 0, slots := 0, locals := 57 })).room.slots := ⟨Nat.zero_le _, Nat.zero_le _⟩
  have hl := lv_entry ([.int a0]) (n := 1) (Nat.le_of_ble_eq_true rfl)
  rw [lg_entry_eq]
  generalize (lg_sl ([.int a0]) ++ List.replicate (1 - (lg_sl ([.int a0])).length) Slot.unset).toArray = ls at hl ⊢
  have hl : lv_has ls 1 [(0, .int a0)] := hl
  have hf : (ob1 (x_isIn a0.toInt64 0 7) fun (v1 : Int32) =>
    zO v1) = some r := hf
  refine lv_iload_n hx hb dX0_isRow_0 rfl (lv_at hl 0 rfl) ?_
  refine lv_i2l (v := a0.toInt64) hx hb dX0_isRow_1 rfl ?_
  refine lv_lconst (v := 0) hx hb dX0_isRow_2 (by decide) ?_
  refine lv_ldc2 (v := 7) hx hb hown (hts _ q284) dX0_isRow_3 ?_
  obtain ⟨v1, h1, hf⟩ := ob1_e hf
  refine x_sR (ov := some (.int v1)) (D := D) (s0 := s0) (Sc := nS) (adc := ad) (Ic := (fun _ => 0)) (Ac := (fun _ _ => 0)) (Rc := nR) (Gc := nG) (Xc := []) (base := base) (As := [.long a0.toInt64, .long 0, .long 7]) (rest := []) ⟨hx, hb, hml, hown, hts⟩ (x_isIn_met l D s0 h0 ad [] base a0.toInt64 0 7 v1 h1) (va_cwS 3 hts (lw_S q285 q286 q76 q287) rfl rfl rfl x_isIn_ds.2 ⟨Nat.le_trans (Nat.le_of_ble_eq_true rfl) hRf, Nat.le_trans (Nat.le_of_ble_eq_true rfl) hRl⟩) hK hY hB WX_nil hcs rfl hl.1 rfl (Nat.le_of_ble_eq_true rfl) dX0_isRow_6 ?_
  obtain ⟨hz, rfl⟩ := zO_e hf
  exact W.zret hx hb hr (nar_z hz) (fun t ht _ => ⟨rfl, ht⟩) (fun q hq => by cases hq) dX0_isRow_9
theorem x_isRow_ds : yX0_isRow.cls = RX0 ∧ yX0_isRow.cls ≠ "java/lang/invoke/MethodHandle" ∧ yX0_isRow.cls ≠ "java/lang/invoke/VarHandle" ∧ (parseMethodDescriptor yX0_isRow.desc).map (fun d => d.parameters.length) = some 1 := by decide +kernel
def x_isHalf (a0 : Int32) : Option (Int32) :=
  ob1 (x_isIn a0.toInt64 0 1) fun (v1 : Int32) =>
  zO v1
set_option maxRecDepth 100000 in
set_option maxHeartbeats 4000000 in
theorem x_isHalf_met (l : Launch) (D : dd_) (s0 : State) (h0 : ∀ w ∈ lw_tbl, va_Nw w s0) (ad : Nat → Nat) (X : va_W) (base : Nat) (a0 : Int32) (r : Int32) (hf : x_isHalf a0 = some r) : Met l yX0_isHalf (ws_ yX0_isHalf cX0_isHalf 1 (some .boolean)) ({ frames := 2, cells := 0, slots := 0, locals := 57 }) (PcX D s0 nS ad (fun _ => 0) (fun _ _ => 0) nR nG X base [.int a0]) (QcR (some (.int r))) 0 0 (fun _ => False) := by
  refine Met.ofW (cc := cX0_isHalf) (maxL := 1) (ret := (some .boolean)) (by decide) rfl ?_
  intro p e s m args below meth c s₁ B hml hv
  obtain ⟨rfl, hK, hY, hB, hW⟩ := hv
  have hx := B.exec
  have hb := B.bytes
  have hr := B.returns
  have hts := atoms_spec (ws := (ws_ yX0_isHalf cX0_isHalf 1 (some .boolean))) B.pre
  have hts : ∀ w ∈ lw_all, w.before _ s = true := fun w h => hts w (List.mem_cons_of_mem _ h)
  have hown : s.vm.findClass RX0 = some m.cls := findClass_of_methodNamed B.named
  have hlocks := B.notSynchronized
  have hRf : 2 ≤ (headSpec (ws_ yX0_isHalf cX0_isHalf 1 (some .boolean)) ({ frames := 2, cells := 0, slots := 0, locals := 57 })).room.frames := Nat.le_refl _
  have hRl : 57 ≤ (headSpec (ws_ yX0_isHalf cX0_isHalf 1 (some .boolean)) ({ frames := 2, cells := 0, slots := 0, locals := 57 })).room.locals := Nat.le_refl _
  have hcs : 0 ≤ (headSpec (ws_ yX0_isHalf cX0_isHalf 1 (some .boolean)) ({ frames := 2, cells := 0, slots := 0, locals := 57 })).room.cells ∧ 0 ≤ (headSpec (ws_ yX0_isHalf cX0_isHalf 1 (some .boolean)) ({ frames := 2, cells := 0, slots := 0, locals := 57 })).room.slots := ⟨Nat.zero_le _, Nat.zero_le _⟩
  have hl := lv_entry ([.int a0]) (n := 1) (Nat.le_of_ble_eq_true rfl)
  rw [lg_entry_eq]
  generalize (lg_sl ([.int a0]) ++ List.replicate (1 - (lg_sl ([.int a0])).length) Slot.unset).toArray = ls at hl ⊢
  have hl : lv_has ls 1 [(0, .int a0)] := hl
  have hf : (ob1 (x_isIn a0.toInt64 0 1) fun (v1 : Int32) =>
    zO v1) = some r := hf
  refine lv_iload_n hx hb dX0_isHalf_0 rfl (lv_at hl 0 rfl) ?_
  refine lv_i2l (v := a0.toInt64) hx hb dX0_isHalf_1 rfl ?_
  refine lv_lconst (v := 0) hx hb dX0_isHalf_2 (by decide) ?_
  refine lv_lconst (v := 1) hx hb dX0_isHalf_3 (by decide) ?_
  obtain ⟨v1, h1, hf⟩ := ob1_e hf
  refine x_sR (ov := some (.int v1)) (D := D) (s0 := s0) (Sc := nS) (adc := ad) (Ic := (fun _ => 0)) (Ac := (fun _ _ => 0)) (Rc := nR) (Gc := nG) (Xc := []) (base := base) (As := [.long a0.toInt64, .long 0, .long 1]) (rest := []) ⟨hx, hb, hml, hown, hts⟩ (x_isIn_met l D s0 h0 ad [] base a0.toInt64 0 1 v1 h1) (va_cwS 3 hts (lw_S q285 q286 q76 q287) rfl rfl rfl x_isIn_ds.2 ⟨Nat.le_trans (Nat.le_of_ble_eq_true rfl) hRf, Nat.le_trans (Nat.le_of_ble_eq_true rfl) hRl⟩) hK hY hB WX_nil hcs rfl hl.1 rfl (Nat.le_of_ble_eq_true rfl) dX0_isHalf_4 ?_
  obtain ⟨hz, rfl⟩ := zO_e hf
  exact W.zret hx hb hr (nar_z hz) (fun t ht _ => ⟨rfl, ht⟩) (fun q hq => by cases hq) dX0_isHalf_7
theorem x_isHalf_ds : yX0_isHalf.cls = RX0 ∧ yX0_isHalf.cls ≠ "java/lang/invoke/MethodHandle" ∧ yX0_isHalf.cls ≠ "java/lang/invoke/VarHandle" ∧ (parseMethodDescriptor yX0_isHalf.desc).map (fun d => d.parameters.length) = some 1 := by decide +kernel
def x_isPlace (a0 : Int32) : Option (Int32) :=
  ob1 (x_isIn a0.toInt64 0 5) fun (v1 : Int32) =>
  zO v1
set_option maxRecDepth 100000 in
set_option maxHeartbeats 4000000 in
theorem x_isPlace_met (l : Launch) (D : dd_) (s0 : State) (h0 : ∀ w ∈ lw_tbl, va_Nw w s0) (ad : Nat → Nat) (X : va_W) (base : Nat) (a0 : Int32) (r : Int32) (hf : x_isPlace a0 = some r) : Met l yX0_isPlace (ws_ yX0_isPlace cX0_isPlace 1 (some .boolean)) ({ frames := 2, cells := 0, slots := 0, locals := 57 }) (PcX D s0 nS ad (fun _ => 0) (fun _ _ => 0) nR nG X base [.int a0]) (QcR (some (.int r))) 0 0 (fun _ => False) := by
  refine Met.ofW (cc := cX0_isPlace) (maxL := 1) (ret := (some .boolean)) (by decide) rfl ?_
  intro p e s m args below meth c s₁ B hml hv
  obtain ⟨rfl, hK, hY, hB, hW⟩ := hv
  have hx := B.exec
  have hb := B.bytes
  have hr := B.returns
  have hts := atoms_spec (ws := (ws_ yX0_isPlace cX0_isPlace 1 (some .boolean))) B.pre
  have hts : ∀ w ∈ lw_all, w.before _ s = true := fun w h => hts w (List.mem_cons_of_mem _ h)
  have hown : s.vm.findClass RX0 = some m.cls := findClass_of_methodNamed B.named
  have hlocks := B.notSynchronized
  have hRf : 2 ≤ (headSpec (ws_ yX0_isPlace cX0_isPlace 1 (some .boolean)) ({ frames := 2, cells := 0, slots := 0, locals := 57 })).room.frames := Nat.le_refl _
  have hRl : 57 ≤ (headSpec (ws_ yX0_isPlace cX0_isPlace 1 (some .boolean)) ({ frames := 2, cells := 0, slots := 0, locals := 57 })).room.locals := Nat.le_refl _
  have hcs : 0 ≤ (headSpec (ws_ yX0_isPlace cX0_isPlace 1 (some .boolean)) ({ frames := 2, cells := 0, slots := 0, locals := 57 })).room.cells ∧ 0 ≤ (headSpec (ws_ yX0_isPlace cX0_isPlace 1 (some .boolean)) ({ frames := 2, cells := 0, slots := 0, locals := 57 })).room.slots := ⟨Nat.zero_le _, Nat.zero_le _⟩
  have hl := lv_entry ([.int a0]) (n := 1) (Nat.le_of_ble_eq_true rfl)
  rw [lg_entry_eq]
  generalize (lg_sl ([.int a0]) ++ List.replicate (1 - (lg_sl ([.int a0])).length) Slot.unset).toArray = ls at hl ⊢
  have hl : lv_has ls 1 [(0, .int a0)] := hl
  have hf : (ob1 (x_isIn a0.toInt64 0 5) fun (v1 : Int32) =>
    zO v1) = some r := hf
  refine lv_iload_n hx hb dX0_isPlace_0 rfl (lv_at hl 0 rfl) ?_
  refine lv_i2l (v := a0.toInt64) hx hb dX0_isPlace_1 rfl ?_
  refine lv_lconst (v := 0) hx hb dX0_isPlace_2 (by decide) ?_
  refine lv_ldc2 (v := 5) hx hb hown (hts _ q843) dX0_isPlace_3 ?_
  obtain ⟨v1, h1, hf⟩ := ob1_e hf
  refine x_sR (ov := some (.int v1)) (D := D) (s0 := s0) (Sc := nS) (adc := ad) (Ic := (fun _ => 0)) (Ac := (fun _ _ => 0)) (Rc := nR) (Gc := nG) (Xc := []) (base := base) (As := [.long a0.toInt64, .long 0, .long 5]) (rest := []) ⟨hx, hb, hml, hown, hts⟩ (x_isIn_met l D s0 h0 ad [] base a0.toInt64 0 5 v1 h1) (va_cwS 3 hts (lw_S q285 q286 q76 q287) rfl rfl rfl x_isIn_ds.2 ⟨Nat.le_trans (Nat.le_of_ble_eq_true rfl) hRf, Nat.le_trans (Nat.le_of_ble_eq_true rfl) hRl⟩) hK hY hB WX_nil hcs rfl hl.1 rfl (Nat.le_of_ble_eq_true rfl) dX0_isPlace_6 ?_
  obtain ⟨hz, rfl⟩ := zO_e hf
  exact W.zret hx hb hr (nar_z hz) (fun t ht _ => ⟨rfl, ht⟩) (fun q hq => by cases hq) dX0_isPlace_9
theorem x_isPlace_ds : yX0_isPlace.cls = RX0 ∧ yX0_isPlace.cls ≠ "java/lang/invoke/MethodHandle" ∧ yX0_isPlace.cls ≠ "java/lang/invoke/VarHandle" ∧ (parseMethodDescriptor yX0_isPlace.desc).map (fun d => d.parameters.length) = some 1 := by decide +kernel
def jp_checkIndex (a0 : Int32) (a1 : Int32) : Option (Int32) :=
  if a0 < 0 then (none) else (if a0 < a1 then (some a0) else (none))
set_option maxRecDepth 100000 in
set_option maxHeartbeats 4000000 in
theorem jp_checkIndex_met (l : Launch) (D : dd_) (s0 : State) (h0 : ∀ w ∈ lw_tbl, va_Nw w s0) (ad : Nat → Nat) (X : va_W) (base : Nat) (a0 : Int32) (a1 : Int32) (r : Int32) (hf : jp_checkIndex a0 a1 = some r) : Met l yJ10_checkIndex (ws_ yJ10_checkIndex cJ10_checkIndex 3 (some .int)) ({ frames := 1, cells := 0, slots := 0, locals := 32 }) (PcX D s0 nS ad (fun _ => 0) (fun _ _ => 0) nR nG X base [.int a0, .int a1, .null]) (QcR (some (.int r))) 0 0 (fun _ => False) := by
  refine Met.ofW (cc := cJ10_checkIndex) (maxL := 3) (ret := (some .int)) (by decide) rfl ?_
  intro p e s m args below meth c s₁ B hml hv
  obtain ⟨rfl, hK, hY, hB, hW⟩ := hv
  have hx := B.exec
  have hb := B.bytes
  have hr := B.returns
  have hts := atoms_spec (ws := (ws_ yJ10_checkIndex cJ10_checkIndex 3 (some .int))) B.pre
  have hts : ∀ w ∈ lw_all, w.before _ s = true := fun w h => hts w (List.mem_cons_of_mem _ h)
  have hown : s.vm.findClass RJ10 = some m.cls := findClass_of_methodNamed B.named
  have hlocks := B.notSynchronized
  have hRf : 1 ≤ (headSpec (ws_ yJ10_checkIndex cJ10_checkIndex 3 (some .int)) ({ frames := 1, cells := 0, slots := 0, locals := 32 })).room.frames := Nat.le_refl _
  have hRl : 32 ≤ (headSpec (ws_ yJ10_checkIndex cJ10_checkIndex 3 (some .int)) ({ frames := 1, cells := 0, slots := 0, locals := 32 })).room.locals := Nat.le_refl _
  have hcs : 0 ≤ (headSpec (ws_ yJ10_checkIndex cJ10_checkIndex 3 (some .int)) ({ frames := 1, cells := 0, slots := 0, locals := 32 })).room.cells ∧ 0 ≤ (headSpec (ws_ yJ10_checkIndex cJ10_checkIndex 3 (some .int)) ({ frames := 1, cells := 0, slots := 0, locals := 32 })).room.slots := ⟨Nat.zero_le _, Nat.zero_le _⟩
  have hl := lv_entry ([.int a0, .int a1, .null]) (n := 3) (Nat.le_of_ble_eq_true rfl)
  rw [lg_entry_eq]
  generalize (lg_sl ([.int a0, .int a1, .null]) ++ List.replicate (3 - (lg_sl ([.int a0, .int a1, .null])).length) Slot.unset).toArray = ls at hl ⊢
  have hl : lv_has ls 3 [(0, .int a0), (1, .int a1), (2, .null)] := hl
  have hf : (if a0 < 0 then (none) else (if a0 < a1 then (some a0) else (none))) = some r := hf
  refine lv_iload_n hx hb dJ10_checkIndex_0 rfl (lv_at hl 0 rfl) ?_
  refine lv_if_lt (tgt := 9) hx hb dJ10_checkIndex_1 (by decide) (fun c1 => ?_) (fun c1 => ?_)
  · rw [if_pos c1] at hf
    exact nomatch hf
  · rw [if_neg c1] at hf
    refine lv_iload_n hx hb dJ10_checkIndex_4 rfl (lv_at hl 0 rfl) ?_
    refine lv_iload_n hx hb dJ10_checkIndex_5 rfl (lv_at hl 1 rfl) ?_
    refine lv_icmp_lt (tgt := 16) hx hb dJ10_checkIndex_6 (by decide) (fun c2 => ?_) (fun c2 => ?_)
    · rw [if_pos c2] at hf
      refine lv_iload_n hx hb dJ10_checkIndex_16 rfl (lv_at hl 0 rfl) ?_
      obtain rfl := so1 hf
      exact W.iret hx hb hr (fun t ht _ => ⟨rfl, ht⟩) (fun q hq => by cases hq) dJ10_checkIndex_17
    · rw [if_neg c2] at hf
      exact nomatch hf
theorem jp_checkIndex_ds : yJ10_checkIndex.cls = RJ10 ∧ yJ10_checkIndex.cls ≠ "java/lang/invoke/MethodHandle" ∧ yJ10_checkIndex.cls ≠ "java/lang/invoke/VarHandle" ∧ (parseMethodDescriptor yJ10_checkIndex.desc).map (fun d => d.parameters.length) = some 3 := by decide +kernel
def jo_checkIndex (a0 : Int32) (a1 : Int32) : Option (Int32) :=
  ob1 (jp_checkIndex a0 a1) fun (v1 : Int32) =>
  some v1
set_option maxRecDepth 100000 in
set_option maxHeartbeats 4000000 in
theorem jo_checkIndex_met (l : Launch) (D : dd_) (s0 : State) (h0 : ∀ w ∈ lw_tbl, va_Nw w s0) (ad : Nat → Nat) (X : va_W) (base : Nat) (a0 : Int32) (a1 : Int32) (r : Int32) (hf : jo_checkIndex a0 a1 = some r) : Met l yJ15_checkIndex (ws_ yJ15_checkIndex cJ15_checkIndex 2 (some .int)) ({ frames := 2, cells := 0, slots := 0, locals := 54 }) (PcX D s0 nS ad (fun _ => 0) (fun _ _ => 0) nR nG X base [.int a0, .int a1]) (QcR (some (.int r))) 0 0 (fun _ => False) := by
  refine Met.ofW (cc := cJ15_checkIndex) (maxL := 2) (ret := (some .int)) (by decide) rfl ?_
  intro p e s m args below meth c s₁ B hml hv
  obtain ⟨rfl, hK, hY, hB, hW⟩ := hv
  have hx := B.exec
  have hb := B.bytes
  have hr := B.returns
  have hts := atoms_spec (ws := (ws_ yJ15_checkIndex cJ15_checkIndex 2 (some .int))) B.pre
  have hts : ∀ w ∈ lw_all, w.before _ s = true := fun w h => hts w (List.mem_cons_of_mem _ h)
  have hown : s.vm.findClass RJ15 = some m.cls := findClass_of_methodNamed B.named
  have hlocks := B.notSynchronized
  have hRf : 2 ≤ (headSpec (ws_ yJ15_checkIndex cJ15_checkIndex 2 (some .int)) ({ frames := 2, cells := 0, slots := 0, locals := 54 })).room.frames := Nat.le_refl _
  have hRl : 54 ≤ (headSpec (ws_ yJ15_checkIndex cJ15_checkIndex 2 (some .int)) ({ frames := 2, cells := 0, slots := 0, locals := 54 })).room.locals := Nat.le_refl _
  have hcs : 0 ≤ (headSpec (ws_ yJ15_checkIndex cJ15_checkIndex 2 (some .int)) ({ frames := 2, cells := 0, slots := 0, locals := 54 })).room.cells ∧ 0 ≤ (headSpec (ws_ yJ15_checkIndex cJ15_checkIndex 2 (some .int)) ({ frames := 2, cells := 0, slots := 0, locals := 54 })).room.slots := ⟨Nat.zero_le _, Nat.zero_le _⟩
  have hl := lv_entry ([.int a0, .int a1]) (n := 2) (Nat.le_of_ble_eq_true rfl)
  rw [lg_entry_eq]
  generalize (lg_sl ([.int a0, .int a1]) ++ List.replicate (2 - (lg_sl ([.int a0, .int a1])).length) Slot.unset).toArray = ls at hl ⊢
  have hl : lv_has ls 2 [(0, .int a0), (1, .int a1)] := hl
  have hf : (ob1 (jp_checkIndex a0 a1) fun (v1 : Int32) =>
    some v1) = some r := hf
  refine lv_iload_n hx hb dJ15_checkIndex_0 rfl (lv_at hl 0 rfl) ?_
  refine lv_iload_n hx hb dJ15_checkIndex_1 rfl (lv_at hl 1 rfl) ?_
  refine lv_null hx hb dJ15_checkIndex_2 ?_
  obtain ⟨v1, h1, hf⟩ := ob1_e hf
  refine x_sR (ov := some (.int v1)) (D := D) (s0 := s0) (Sc := nS) (adc := ad) (Ic := (fun _ => 0)) (Ac := (fun _ _ => 0)) (Rc := nR) (Gc := nG) (Xc := []) (base := base) (As := [.int a0, .int a1, .null]) (rest := []) ⟨hx, hb, hml, hown, hts⟩ (jp_checkIndex_met l D s0 h0 ad [] base a0 a1 v1 h1) (va_cwS 3 hts (lw_S q798 q576 q95 q577) rfl rfl rfl jp_checkIndex_ds.2 ⟨Nat.le_trans (Nat.le_of_ble_eq_true rfl) hRf, Nat.le_trans (Nat.le_of_ble_eq_true rfl) hRl⟩) hK hY hB WX_nil hcs rfl hl.1 rfl (Nat.le_of_ble_eq_true rfl) dJ15_checkIndex_3 ?_
  obtain rfl := so1 hf
  exact W.iret hx hb hr (fun t ht _ => ⟨rfl, ht⟩) (fun q hq => by cases hq) dJ15_checkIndex_6
theorem jo_checkIndex_ds : yJ15_checkIndex.cls = RJ15 ∧ yJ15_checkIndex.cls ≠ "java/lang/invoke/MethodHandle" ∧ yJ15_checkIndex.cls ≠ "java/lang/invoke/VarHandle" ∧ (parseMethodDescriptor yJ15_checkIndex.desc).map (fun d => d.parameters.length) = some 2 := by decide +kernel
/-! people -/
def k8_grows : Option (Int32) :=
  zO 0
set_option maxRecDepth 100000 in
set_option maxHeartbeats 4000000 in
theorem k8_grows_met (l : Launch) (D : dd_) (s0 : State) (h0 : ∀ w ∈ lw_tbl, va_Nw w s0) (ad : Nat → Nat) (X : va_W) (base : Nat) (b : Nat) (r : Int32) (hf : k8_grows  = some r) : Met l yX8_grows (ws_ yX8_grows cX8_grows 1 (some .boolean)) ({ frames := 1, cells := 0, slots := 0, locals := 32 }) (PcX D s0 nS ad (fun _ => 0) (fun _ _ => 0) nR nG X base [.ref b]) (QcR (some (.int r))) 0 0 (fun _ => False) := by
  refine Met.ofW (cc := cX8_grows) (maxL := 1) (ret := (some .boolean)) (by decide) rfl ?_
  intro p e s m args below meth c s₁ B hml hv
  obtain ⟨rfl, hK, hY, hB, hW⟩ := hv
  have hx := B.exec
  have hb := B.bytes
  have hr := B.returns
  have hts := atoms_spec (ws := (ws_ yX8_grows cX8_grows 1 (some .boolean))) B.pre
  have hts : ∀ w ∈ lw_all, w.before _ s = true := fun w h => hts w (List.mem_cons_of_mem _ h)
  have hown : s.vm.findClass RX8 = some m.cls := findClass_of_methodNamed B.named
  have hlocks := B.notSynchronized
  have hRf : 1 ≤ (headSpec (ws_ yX8_grows cX8_grows 1 (some .boolean)) ({ frames := 1, cells := 0, slots := 0, locals := 32 })).room.frames := Nat.le_refl _
  have hRl : 32 ≤ (headSpec (ws_ yX8_grows cX8_grows 1 (some .boolean)) ({ frames := 1, cells := 0, slots := 0, locals := 32 })).room.locals := Nat.le_refl _
  have hcs : 0 ≤ (headSpec (ws_ yX8_grows cX8_grows 1 (some .boolean)) ({ frames := 1, cells := 0, slots := 0, locals := 32 })).room.cells ∧ 0 ≤ (headSpec (ws_ yX8_grows cX8_grows 1 (some .boolean)) ({ frames := 1, cells := 0, slots := 0, locals := 32 })).room.slots := ⟨Nat.zero_le _, Nat.zero_le _⟩
  have hl := lv_entry ([.ref b]) (n := 1) (Nat.le_of_ble_eq_true rfl)
  rw [lg_entry_eq]
  generalize (lg_sl ([.ref b]) ++ List.replicate (1 - (lg_sl ([.ref b])).length) Slot.unset).toArray = ls at hl ⊢
  have hl : lv_has ls 1 [(0, .ref b)] := hl
  have hf : (zO 0) = some r := hf
  refine lv_iconst (v := 0) hx hb dX8_grows_0 (by decide) ?_
  obtain ⟨hz, rfl⟩ := zO_e hf
  exact W.zret hx hb hr (nar_z hz) (fun t ht _ => ⟨rfl, ht⟩) (fun q hq => by cases hq) dX8_grows_1
theorem k8_grows_ds : yX8_grows.cls = RX8 ∧ yX8_grows.cls ≠ "java/lang/invoke/MethodHandle" ∧ yX8_grows.cls ≠ "java/lang/invoke/VarHandle" ∧ (parseMethodDescriptor yX8_grows.desc).map (fun d => d.parameters.length) = some 0 := by decide +kernel
def k8_isVotedFor : Option (Int32) :=
  zO 0
set_option maxRecDepth 100000 in
set_option maxHeartbeats 4000000 in
theorem k8_isVotedFor_met (l : Launch) (D : dd_) (s0 : State) (h0 : ∀ w ∈ lw_tbl, va_Nw w s0) (ad : Nat → Nat) (X : va_W) (base : Nat) (b : Nat) (r : Int32) (hf : k8_isVotedFor  = some r) : Met l yX8_isVotedFor (ws_ yX8_isVotedFor cX8_isVotedFor 1 (some .boolean)) ({ frames := 1, cells := 0, slots := 0, locals := 32 }) (PcX D s0 nS ad (fun _ => 0) (fun _ _ => 0) nR nG X base [.ref b]) (QcR (some (.int r))) 0 0 (fun _ => False) := by
  refine Met.ofW (cc := cX8_isVotedFor) (maxL := 1) (ret := (some .boolean)) (by decide) rfl ?_
  intro p e s m args below meth c s₁ B hml hv
  obtain ⟨rfl, hK, hY, hB, hW⟩ := hv
  have hx := B.exec
  have hb := B.bytes
  have hr := B.returns
  have hts := atoms_spec (ws := (ws_ yX8_isVotedFor cX8_isVotedFor 1 (some .boolean))) B.pre
  have hts : ∀ w ∈ lw_all, w.before _ s = true := fun w h => hts w (List.mem_cons_of_mem _ h)
  have hown : s.vm.findClass RX8 = some m.cls := findClass_of_methodNamed B.named
  have hlocks := B.notSynchronized
  have hRf : 1 ≤ (headSpec (ws_ yX8_isVotedFor cX8_isVotedFor 1 (some .boolean)) ({ frames := 1, cells := 0, slots := 0, locals := 32 })).room.frames := Nat.le_refl _
  have hRl : 32 ≤ (headSpec (ws_ yX8_isVotedFor cX8_isVotedFor 1 (some .boolean)) ({ frames := 1, cells := 0, slots := 0, locals := 32 })).room.locals := Nat.le_refl _
  have hcs : 0 ≤ (headSpec (ws_ yX8_isVotedFor cX8_isVotedFor 1 (some .boolean)) ({ frames := 1, cells := 0, slots := 0, locals := 32 })).room.cells ∧ 0 ≤ (headSpec (ws_ yX8_isVotedFor cX8_isVotedFor 1 (some .boolean)) ({ frames := 1, cells := 0, slots := 0, locals := 32 })).room.slots := ⟨Nat.zero_le _, Nat.zero_le _⟩
  have hl := lv_entry ([.ref b]) (n := 1) (Nat.le_of_ble_eq_true rfl)
  rw [lg_entry_eq]
  generalize (lg_sl ([.ref b]) ++ List.replicate (1 - (lg_sl ([.ref b])).length) Slot.unset).toArray = ls at hl ⊢
  have hl : lv_has ls 1 [(0, .ref b)] := hl
  have hf : (zO 0) = some r := hf
  refine lv_iconst (v := 0) hx hb dX8_isVotedFor_0 (by decide) ?_
  obtain ⟨hz, rfl⟩ := zO_e hf
  exact W.zret hx hb hr (nar_z hz) (fun t ht _ => ⟨rfl, ht⟩) (fun q hq => by cases hq) dX8_isVotedFor_1
theorem k8_isVotedFor_ds : yX8_isVotedFor.cls = RX8 ∧ yX8_isVotedFor.cls ≠ "java/lang/invoke/MethodHandle" ∧ yX8_isVotedFor.cls ≠ "java/lang/invoke/VarHandle" ∧ (parseMethodDescriptor yX8_isVotedFor.desc).map (fun d => d.parameters.length) = some 0 := by decide +kernel
def k9_kind : Option (Int32) :=
  some 1
set_option maxRecDepth 100000 in
set_option maxHeartbeats 4000000 in
theorem k9_kind_met (l : Launch) (D : dd_) (s0 : State) (h0 : ∀ w ∈ lw_tbl, va_Nw w s0) (ad : Nat → Nat) (X : va_W) (base : Nat) (b : Nat) (r : Int32) (hf : k9_kind  = some r) : Met l yX9_kind (ws_ yX9_kind cX9_kind 1 (some .int)) ({ frames := 1, cells := 0, slots := 0, locals := 32 }) (PcX D s0 nS ad (fun _ => 0) (fun _ _ => 0) nR nG X base [.ref b]) (QcR (some (.int r))) 0 0 (fun _ => False) := by
  refine Met.ofW (cc := cX9_kind) (maxL := 1) (ret := (some .int)) (by decide) rfl ?_
  intro p e s m args below meth c s₁ B hml hv
  obtain ⟨rfl, hK, hY, hB, hW⟩ := hv
  have hx := B.exec
  have hb := B.bytes
  have hr := B.returns
  have hts := atoms_spec (ws := (ws_ yX9_kind cX9_kind 1 (some .int))) B.pre
  have hts : ∀ w ∈ lw_all, w.before _ s = true := fun w h => hts w (List.mem_cons_of_mem _ h)
  have hown : s.vm.findClass RX9 = some m.cls := findClass_of_methodNamed B.named
  have hlocks := B.notSynchronized
  have hRf : 1 ≤ (headSpec (ws_ yX9_kind cX9_kind 1 (some .int)) ({ frames := 1, cells := 0, slots := 0, locals := 32 })).room.frames := Nat.le_refl _
  have hRl : 32 ≤ (headSpec (ws_ yX9_kind cX9_kind 1 (some .int)) ({ frames := 1, cells := 0, slots := 0, locals := 32 })).room.locals := Nat.le_refl _
  have hcs : 0 ≤ (headSpec (ws_ yX9_kind cX9_kind 1 (some .int)) ({ frames := 1, cells := 0, slots := 0, locals := 32 })).room.cells ∧ 0 ≤ (headSpec (ws_ yX9_kind cX9_kind 1 (some .int)) ({ frames := 1, cells := 0, slots := 0, locals := 32 })).room.slots := ⟨Nat.zero_le _, Nat.zero_le _⟩
  have hl := lv_entry ([.ref b]) (n := 1) (Nat.le_of_ble_eq_true rfl)
  rw [lg_entry_eq]
  generalize (lg_sl ([.ref b]) ++ List.replicate (1 - (lg_sl ([.ref b])).length) Slot.unset).toArray = ls at hl ⊢
  have hl : lv_has ls 1 [(0, .ref b)] := hl
  have hf : (some 1) = some r := hf
  refine lv_iconst (v := 1) hx hb dX9_kind_0 (by decide) ?_
  obtain rfl := so1 hf
  exact W.iret hx hb hr (fun t ht _ => ⟨rfl, ht⟩) (fun q hq => by cases hq) dX9_kind_1
theorem k9_kind_ds : yX9_kind.cls = RX9 ∧ yX9_kind.cls ≠ "java/lang/invoke/MethodHandle" ∧ yX9_kind.cls ≠ "java/lang/invoke/VarHandle" ∧ (parseMethodDescriptor yX9_kind.desc).map (fun d => d.parameters.length) = some 0 := by decide +kernel
def k9_pounds (a0 : Int32) (a1 : Int32) : Option (Int32) :=
  some a0
set_option maxRecDepth 100000 in
set_option maxHeartbeats 4000000 in
theorem k9_pounds_met (l : Launch) (D : dd_) (s0 : State) (h0 : ∀ w ∈ lw_tbl, va_Nw w s0) (ad : Nat → Nat) (X : va_W) (base : Nat) (b : Nat) (a0 : Int32) (a1 : Int32) (r : Int32) (hf : k9_pounds a0 a1 = some r) : Met l yX9_pounds (ws_ yX9_pounds cX9_pounds 3 (some .int)) ({ frames := 1, cells := 0, slots := 0, locals := 32 }) (PcX D s0 nS ad (fun _ => 0) (fun _ _ => 0) nR nG X base [.ref b, .int a0, .int a1]) (QcR (some (.int r))) 0 0 (fun _ => False) := by
  refine Met.ofW (cc := cX9_pounds) (maxL := 3) (ret := (some .int)) (by decide) rfl ?_
  intro p e s m args below meth c s₁ B hml hv
  obtain ⟨rfl, hK, hY, hB, hW⟩ := hv
  have hx := B.exec
  have hb := B.bytes
  have hr := B.returns
  have hts := atoms_spec (ws := (ws_ yX9_pounds cX9_pounds 3 (some .int))) B.pre
  have hts : ∀ w ∈ lw_all, w.before _ s = true := fun w h => hts w (List.mem_cons_of_mem _ h)
  have hown : s.vm.findClass RX9 = some m.cls := findClass_of_methodNamed B.named
  have hlocks := B.notSynchronized
  have hRf : 1 ≤ (headSpec (ws_ yX9_pounds cX9_pounds 3 (some .int)) ({ frames := 1, cells := 0, slots := 0, locals := 32 })).room.frames := Nat.le_refl _
  have hRl : 32 ≤ (headSpec (ws_ yX9_pounds cX9_pounds 3 (some .int)) ({ frames := 1, cells := 0, slots := 0, locals := 32 })).room.locals := Nat.le_refl _
  have hcs : 0 ≤ (headSpec (ws_ yX9_pounds cX9_pounds 3 (some .int)) ({ frames := 1, cells := 0, slots := 0, locals := 32 })).room.cells ∧ 0 ≤ (headSpec (ws_ yX9_pounds cX9_pounds 3 (some .int)) ({ frames := 1, cells := 0, slots := 0, locals := 32 })).room.slots := ⟨Nat.zero_le _, Nat.zero_le _⟩
  have hl := lv_entry ([.ref b, .int a0, .int a1]) (n := 3) (Nat.le_of_ble_eq_true rfl)
  rw [lg_entry_eq]
  generalize (lg_sl ([.ref b, .int a0, .int a1]) ++ List.replicate (3 - (lg_sl ([.ref b, .int a0, .int a1])).length) Slot.unset).toArray = ls at hl ⊢
  have hl : lv_has ls 3 [(0, .ref b), (1, .int a0), (2, .int a1)] := hl
  have hf : (some a0) = some r := hf
  refine lv_iload_n hx hb dX9_pounds_0 rfl (lv_at hl 1 rfl) ?_
  obtain rfl := so1 hf
  exact W.iret hx hb hr (fun t ht _ => ⟨rfl, ht⟩) (fun q hq => by cases hq) dX9_pounds_1
theorem k9_pounds_ds : yX9_pounds.cls = RX9 ∧ yX9_pounds.cls ≠ "java/lang/invoke/MethodHandle" ∧ yX9_pounds.cls ≠ "java/lang/invoke/VarHandle" ∧ (parseMethodDescriptor yX9_pounds.desc).map (fun d => d.parameters.length) = some 2 := by decide +kernel
def k10_kind : Option (Int32) :=
  some 2
set_option maxRecDepth 100000 in
set_option maxHeartbeats 4000000 in
theorem k10_kind_met (l : Launch) (D : dd_) (s0 : State) (h0 : ∀ w ∈ lw_tbl, va_Nw w s0) (ad : Nat → Nat) (X : va_W) (base : Nat) (b : Nat) (r : Int32) (hf : k10_kind  = some r) : Met l yX10_kind (ws_ yX10_kind cX10_kind 1 (some .int)) ({ frames := 1, cells := 0, slots := 0, locals := 32 }) (PcX D s0 nS ad (fun _ => 0) (fun _ _ => 0) nR nG X base [.ref b]) (QcR (some (.int r))) 0 0 (fun _ => False) := by
  refine Met.ofW (cc := cX10_kind) (maxL := 1) (ret := (some .int)) (by decide) rfl ?_
  intro p e s m args below meth c s₁ B hml hv
  obtain ⟨rfl, hK, hY, hB, hW⟩ := hv
  have hx := B.exec
  have hb := B.bytes
  have hr := B.returns
  have hts := atoms_spec (ws := (ws_ yX10_kind cX10_kind 1 (some .int))) B.pre
  have hts : ∀ w ∈ lw_all, w.before _ s = true := fun w h => hts w (List.mem_cons_of_mem _ h)
  have hown : s.vm.findClass RX10 = some m.cls := findClass_of_methodNamed B.named
  have hlocks := B.notSynchronized
  have hRf : 1 ≤ (headSpec (ws_ yX10_kind cX10_kind 1 (some .int)) ({ frames := 1, cells := 0, slots := 0, locals := 32 })).room.frames := Nat.le_refl _
  have hRl : 32 ≤ (headSpec (ws_ yX10_kind cX10_kind 1 (some .int)) ({ frames := 1, cells := 0, slots := 0, locals := 32 })).room.locals := Nat.le_refl _
  have hcs : 0 ≤ (headSpec (ws_ yX10_kind cX10_kind 1 (some .int)) ({ frames := 1, cells := 0, slots := 0, locals := 32 })).room.cells ∧ 0 ≤ (headSpec (ws_ yX10_kind cX10_kind 1 (some .int)) ({ frames := 1, cells := 0, slots := 0, locals := 32 })).room.slots := ⟨Nat.zero_le _, Nat.zero_le _⟩
  have hl := lv_entry ([.ref b]) (n := 1) (Nat.le_of_ble_eq_true rfl)
  rw [lg_entry_eq]
  generalize (lg_sl ([.ref b]) ++ List.replicate (1 - (lg_sl ([.ref b])).length) Slot.unset).toArray = ls at hl ⊢
  have hl : lv_has ls 1 [(0, .ref b)] := hl
  have hf : (some 2) = some r := hf
  refine lv_iconst (v := 2) hx hb dX10_kind_0 (by decide) ?_
  obtain rfl := so1 hf
  exact W.iret hx hb hr (fun t ht _ => ⟨rfl, ht⟩) (fun q hq => by cases hq) dX10_kind_1
theorem k10_kind_ds : yX10_kind.cls = RX10 ∧ yX10_kind.cls ≠ "java/lang/invoke/MethodHandle" ∧ yX10_kind.cls ≠ "java/lang/invoke/VarHandle" ∧ (parseMethodDescriptor yX10_kind.desc).map (fun d => d.parameters.length) = some 0 := by decide +kernel
def k10_pounds (a0 : Int32) (a1 : Int32) : Option (Int32) :=
  ob1 (k9_pounds a0 a1) fun (v1 : Int32) =>
  ob1 (divO v1 2) fun (v2 : Int32) =>
  some v2
set_option maxRecDepth 100000 in
set_option maxHeartbeats 4000000 in
theorem k10_pounds_met (l : Launch) (D : dd_) (s0 : State) (h0 : ∀ w ∈ lw_tbl, va_Nw w s0) (ad : Nat → Nat) (X : va_W) (base : Nat) (b : Nat) (z : Int32) (hm : (b, Sum.inr (9, [.int z])) ∈ X) (a0 : Int32) (a1 : Int32) (r : Int32) (hf : k10_pounds a0 a1 = some r) : Met l yX10_pounds (ws_ yX10_pounds cX10_pounds 3 (some .int)) ({ frames := 2, cells := 0, slots := 0, locals := 54 }) (PcX D s0 nS ad (fun _ => 0) (fun _ _ => 0) nR nG X base [.ref b, .int a0, .int a1]) (QcR (some (.int r))) 0 0 (fun _ => False) := by
  refine Met.ofW (cc := cX10_pounds) (maxL := 3) (ret := (some .int)) (by decide) rfl ?_
  intro p e s m args below meth c s₁ B hml hv
  obtain ⟨rfl, hK, hY, hB, hW⟩ := hv
  have hx := B.exec
  have hb := B.bytes
  have hr := B.returns
  have hts := atoms_spec (ws := (ws_ yX10_pounds cX10_pounds 3 (some .int))) B.pre
  have hts : ∀ w ∈ lw_all, w.before _ s = true := fun w h => hts w (List.mem_cons_of_mem _ h)
  have hown : s.vm.findClass RX10 = some m.cls := findClass_of_methodNamed B.named
  have hlocks := B.notSynchronized
  have hRf : 2 ≤ (headSpec (ws_ yX10_pounds cX10_pounds 3 (some .int)) ({ frames := 2, cells := 0, slots := 0, locals := 54 })).room.frames := Nat.le_refl _
  have hRl : 54 ≤ (headSpec (ws_ yX10_pounds cX10_pounds 3 (some .int)) ({ frames := 2, cells := 0, slots := 0, locals := 54 })).room.locals := Nat.le_refl _
  have hcs : 0 ≤ (headSpec (ws_ yX10_pounds cX10_pounds 3 (some .int)) ({ frames := 2, cells := 0, slots := 0, locals := 54 })).room.cells ∧ 0 ≤ (headSpec (ws_ yX10_pounds cX10_pounds 3 (some .int)) ({ frames := 2, cells := 0, slots := 0, locals := 54 })).room.slots := ⟨Nat.zero_le _, Nat.zero_le _⟩
  have hl := lv_entry ([.ref b, .int a0, .int a1]) (n := 3) (Nat.le_of_ble_eq_true rfl)
  rw [lg_entry_eq]
  generalize (lg_sl ([.ref b, .int a0, .int a1]) ++ List.replicate (3 - (lg_sl ([.ref b, .int a0, .int a1])).length) Slot.unset).toArray = ls at hl ⊢
  have hl : lv_has ls 3 [(0, .ref b), (1, .int a0), (2, .int a1)] := hl
  have hf : (ob1 (k9_pounds a0 a1) fun (v1 : Int32) =>
    ob1 (divO v1 2) fun (v2 : Int32) =>
    some v2) = some r := hf
  refine lv_aload_n hx hb dX10_pounds_0 rfl (lv_at hl 0 rfl) ?_
  refine lv_iload_n hx hb dX10_pounds_1 rfl (lv_at hl 1 rfl) ?_
  refine lv_iload_n hx hb dX10_pounds_2 rfl (lv_at hl 2 rfl) ?_
  obtain ⟨v1, hv1, hf⟩ := ob1_e hf
  refine x_suR (ov := some (.int v1)) (D := D) (s0 := s0) (Sc := nS) (adc := ad) (Ic := (fun _ => 0)) (Ac := (fun _ _ => 0)) (Rc := nR) (Gc := nG) (Xc := X) (base := base) (As := [.int a0, .int a1]) (rest := []) (b := b) (C := RX10) (x_cls hK (ci := 9) rfl) ⟨hx, hb, hml, hown, hts⟩ (k9_pounds_met l D s0 h0 ad X base b a0 a1 v1 hv1) (va_cwSU 2 hts (lw_SU q810 q1648 q642 q811 q98 q812) rfl rfl rfl (by decide +kernel) ⟨Nat.le_trans (Nat.le_of_ble_eq_true rfl) hRf, Nat.le_trans (Nat.le_of_ble_eq_true rfl) hRl⟩) (x_recvD hK hW hm rfl) hK hY hB hW hcs rfl hl.1 rfl (Nat.le_of_ble_eq_true rfl) dX10_pounds_3 ?_
  refine lv_iconst (v := 2) hx hb dX10_pounds_6 (by decide) ?_
  obtain ⟨v2, hv2, hf⟩ := ob1_e hf
  refine g_idiv hx hb hv2 dX10_pounds_7 ?_
  obtain rfl := so1 hf
  exact W.iret hx hb hr (fun t ht _ => ⟨rfl, ht⟩) (fun q hq => by cases hq) dX10_pounds_8
theorem k10_pounds_ds : yX10_pounds.cls = RX10 ∧ yX10_pounds.cls ≠ "java/lang/invoke/MethodHandle" ∧ yX10_pounds.cls ≠ "java/lang/invoke/VarHandle" ∧ (parseMethodDescriptor yX10_pounds.desc).map (fun d => d.parameters.length) = some 2 := by decide +kernel
def k11_kind : Option (Int32) :=
  some 3
set_option maxRecDepth 100000 in
set_option maxHeartbeats 4000000 in
theorem k11_kind_met (l : Launch) (D : dd_) (s0 : State) (h0 : ∀ w ∈ lw_tbl, va_Nw w s0) (ad : Nat → Nat) (X : va_W) (base : Nat) (b : Nat) (r : Int32) (hf : k11_kind  = some r) : Met l yX11_kind (ws_ yX11_kind cX11_kind 1 (some .int)) ({ frames := 1, cells := 0, slots := 0, locals := 32 }) (PcX D s0 nS ad (fun _ => 0) (fun _ _ => 0) nR nG X base [.ref b]) (QcR (some (.int r))) 0 0 (fun _ => False) := by
  refine Met.ofW (cc := cX11_kind) (maxL := 1) (ret := (some .int)) (by decide) rfl ?_
  intro p e s m args below meth c s₁ B hml hv
  obtain ⟨rfl, hK, hY, hB, hW⟩ := hv
  have hx := B.exec
  have hb := B.bytes
  have hr := B.returns
  have hts := atoms_spec (ws := (ws_ yX11_kind cX11_kind 1 (some .int))) B.pre
  have hts : ∀ w ∈ lw_all, w.before _ s = true := fun w h => hts w (List.mem_cons_of_mem _ h)
  have hown : s.vm.findClass RX11 = some m.cls := findClass_of_methodNamed B.named
  have hlocks := B.notSynchronized
  have hRf : 1 ≤ (headSpec (ws_ yX11_kind cX11_kind 1 (some .int)) ({ frames := 1, cells := 0, slots := 0, locals := 32 })).room.frames := Nat.le_refl _
  have hRl : 32 ≤ (headSpec (ws_ yX11_kind cX11_kind 1 (some .int)) ({ frames := 1, cells := 0, slots := 0, locals := 32 })).room.locals := Nat.le_refl _
  have hcs : 0 ≤ (headSpec (ws_ yX11_kind cX11_kind 1 (some .int)) ({ frames := 1, cells := 0, slots := 0, locals := 32 })).room.cells ∧ 0 ≤ (headSpec (ws_ yX11_kind cX11_kind 1 (some .int)) ({ frames := 1, cells := 0, slots := 0, locals := 32 })).room.slots := ⟨Nat.zero_le _, Nat.zero_le _⟩
  have hl := lv_entry ([.ref b]) (n := 1) (Nat.le_of_ble_eq_true rfl)
  rw [lg_entry_eq]
  generalize (lg_sl ([.ref b]) ++ List.replicate (1 - (lg_sl ([.ref b])).length) Slot.unset).toArray = ls at hl ⊢
  have hl : lv_has ls 1 [(0, .ref b)] := hl
  have hf : (some 3) = some r := hf
  refine lv_iconst (v := 3) hx hb dX11_kind_0 (by decide) ?_
  obtain rfl := so1 hf
  exact W.iret hx hb hr (fun t ht _ => ⟨rfl, ht⟩) (fun q hq => by cases hq) dX11_kind_1
theorem k11_kind_ds : yX11_kind.cls = RX11 ∧ yX11_kind.cls ≠ "java/lang/invoke/MethodHandle" ∧ yX11_kind.cls ≠ "java/lang/invoke/VarHandle" ∧ (parseMethodDescriptor yX11_kind.desc).map (fun d => d.parameters.length) = some 0 := by decide +kernel
def k11_pounds (a0 : Int32) (a1 : Int32) : Option (Int32) :=
  ob1 (if a1 = 0 then (ob1 (k9_pounds a0 a1) fun (v3 : Int32) =>
      (some v3 : Option (Int32))) else (ob1 (k9_pounds a0 a1) fun (v4 : Int32) =>
      (some (2 * v4) : Option (Int32)))) fun (v1 : Int32) =>
  some v1
set_option maxRecDepth 100000 in
set_option maxHeartbeats 4000000 in
theorem k11_pounds_met (l : Launch) (D : dd_) (s0 : State) (h0 : ∀ w ∈ lw_tbl, va_Nw w s0) (ad : Nat → Nat) (X : va_W) (base : Nat) (b : Nat) (z : Int32) (hm : (b, Sum.inr (10, [.int z])) ∈ X) (a0 : Int32) (a1 : Int32) (r : Int32) (hf : k11_pounds a0 a1 = some r) : Met l yX11_pounds (ws_ yX11_pounds cX11_pounds 3 (some .int)) ({ frames := 2, cells := 0, slots := 0, locals := 54 }) (PcX D s0 nS ad (fun _ => 0) (fun _ _ => 0) nR nG X base [.ref b, .int a0, .int a1]) (QcR (some (.int r))) 0 0 (fun _ => False) := by
  refine Met.ofW (cc := cX11_pounds) (maxL := 3) (ret := (some .int)) (by decide) rfl ?_
  intro p e s m args below meth c s₁ B hml hv
  obtain ⟨rfl, hK, hY, hB, hW⟩ := hv
  have hx := B.exec
  have hb := B.bytes
  have hr := B.returns
  have hts := atoms_spec (ws := (ws_ yX11_pounds cX11_pounds 3 (some .int))) B.pre
  have hts : ∀ w ∈ lw_all, w.before _ s = true := fun w h => hts w (List.mem_cons_of_mem _ h)
  have hown : s.vm.findClass RX11 = some m.cls := findClass_of_methodNamed B.named
  have hlocks := B.notSynchronized
  have hRf : 2 ≤ (headSpec (ws_ yX11_pounds cX11_pounds 3 (some .int)) ({ frames := 2, cells := 0, slots := 0, locals := 54 })).room.frames := Nat.le_refl _
  have hRl : 54 ≤ (headSpec (ws_ yX11_pounds cX11_pounds 3 (some .int)) ({ frames := 2, cells := 0, slots := 0, locals := 54 })).room.locals := Nat.le_refl _
  have hcs : 0 ≤ (headSpec (ws_ yX11_pounds cX11_pounds 3 (some .int)) ({ frames := 2, cells := 0, slots := 0, locals := 54 })).room.cells ∧ 0 ≤ (headSpec (ws_ yX11_pounds cX11_pounds 3 (some .int)) ({ frames := 2, cells := 0, slots := 0, locals := 54 })).room.slots := ⟨Nat.zero_le _, Nat.zero_le _⟩
  have hl := lv_entry ([.ref b, .int a0, .int a1]) (n := 3) (Nat.le_of_ble_eq_true rfl)
  rw [lg_entry_eq]
  generalize (lg_sl ([.ref b, .int a0, .int a1]) ++ List.replicate (3 - (lg_sl ([.ref b, .int a0, .int a1])).length) Slot.unset).toArray = ls at hl ⊢
  have hl : lv_has ls 3 [(0, .ref b), (1, .int a0), (2, .int a1)] := hl
  have hf : (ob1 (if a1 = 0 then (ob1 (k9_pounds a0 a1) fun (v3 : Int32) =>
        (some v3 : Option (Int32))) else (ob1 (k9_pounds a0 a1) fun (v4 : Int32) =>
        (some (2 * v4) : Option (Int32)))) fun (v1 : Int32) =>
    some v1) = some r := hf
  refine lv_iload_n hx hb dX11_pounds_0 rfl (lv_at hl 2 rfl) ?_
  obtain ⟨v1, hm1, hf⟩ := ob1_e hf
  refine w_cutL (nL := 3) (L := []) (pcj := 21) (st := [.int v1]) (fun ls hl => ?_) (fun K1 => ?_)
  · obtain rfl := so1 hf
    exact W.iret hx hb hr (fun t ht _ => ⟨rfl, ht⟩) (fun q hq => by cases hq) dX11_pounds_21
  · refine lv_if_eq (tgt := 15) hx hb dX11_pounds_1 (by decide) (fun c2 => ?_) (fun c2 => ?_)
    · rw [if_pos c2] at hm1
      refine lv_aload_n hx hb dX11_pounds_15 rfl (lv_at hl 0 rfl) ?_
      refine lv_iload_n hx hb dX11_pounds_16 rfl (lv_at hl 1 rfl) ?_
      refine lv_iload_n hx hb dX11_pounds_17 rfl (lv_at hl 2 rfl) ?_
      obtain ⟨v3, hv3, hm1⟩ := ob1_e hm1
      refine x_suR (ov := some (.int v3)) (D := D) (s0 := s0) (Sc := nS) (adc := ad) (Ic := (fun _ => 0)) (Ac := (fun _ _ => 0)) (Rc := nR) (Gc := nG) (Xc := X) (base := base) (As := [.int a0, .int a1]) (rest := []) (b := b) (C := RX11) (x_cls hK (ci := 10) rfl) ⟨hx, hb, hml, hown, hts⟩ (k9_pounds_met l D s0 h0 ad X base b a0 a1 v3 hv3) (va_cwSU 2 hts (lw_SU q824 q1648 q650 q811 q98 q812) rfl rfl rfl (by decide +kernel) ⟨Nat.le_trans (Nat.le_of_ble_eq_true rfl) hRf, Nat.le_trans (Nat.le_of_ble_eq_true rfl) hRl⟩) (x_recvD hK hW hm rfl) hK hY hB hW hcs rfl hl.1 rfl (Nat.le_of_ble_eq_true rfl) dX11_pounds_18 ?_
      obtain rfl := so1 hm1
      exact K1 ls (lv_sub hl [] rfl)
    · rw [if_neg c2] at hm1
      refine lv_iconst (v := 2) hx hb dX11_pounds_4 (by decide) ?_
      refine lv_aload_n hx hb dX11_pounds_5 rfl (lv_at hl 0 rfl) ?_
      refine lv_iload_n hx hb dX11_pounds_6 rfl (lv_at hl 1 rfl) ?_
      refine lv_iload_n hx hb dX11_pounds_7 rfl (lv_at hl 2 rfl) ?_
      obtain ⟨v4, hv4, hm1⟩ := ob1_e hm1
      refine x_suR (ov := some (.int v4)) (D := D) (s0 := s0) (Sc := nS) (adc := ad) (Ic := (fun _ => 0)) (Ac := (fun _ _ => 0)) (Rc := nR) (Gc := nG) (Xc := X) (base := base) (As := [.int a0, .int a1]) (rest := [.int 2]) (b := b) (C := RX11) (x_cls hK (ci := 10) rfl) ⟨hx, hb, hml, hown, hts⟩ (k9_pounds_met l D s0 h0 ad X base b a0 a1 v4 hv4) (va_cwSU 2 hts (lw_SU q824 q1648 q650 q811 q98 q812) rfl rfl rfl (by decide +kernel) ⟨Nat.le_trans (Nat.le_of_ble_eq_true rfl) hRf, Nat.le_trans (Nat.le_of_ble_eq_true rfl) hRl⟩) (x_recvD hK hW hm rfl) hK hY hB hW hcs rfl hl.1 rfl (Nat.le_of_ble_eq_true rfl) dX11_pounds_8 ?_
      refine lv_imul hx hb dX11_pounds_11 ?_
      refine lv_goto (tgt := 21) hx hb dX11_pounds_12 (by decide) ?_
      obtain rfl := so1 hm1
      exact K1 ls (lv_sub hl [] rfl)
theorem k11_pounds_ds : yX11_pounds.cls = RX11 ∧ yX11_pounds.cls ≠ "java/lang/invoke/MethodHandle" ∧ yX11_pounds.cls ≠ "java/lang/invoke/VarHandle" ∧ (parseMethodDescriptor yX11_pounds.desc).map (fun d => d.parameters.length) = some 2 := by decide +kernel
def k12_kind : Option (Int32) :=
  some 4
set_option maxRecDepth 100000 in
set_option maxHeartbeats 4000000 in
theorem k12_kind_met (l : Launch) (D : dd_) (s0 : State) (h0 : ∀ w ∈ lw_tbl, va_Nw w s0) (ad : Nat → Nat) (X : va_W) (base : Nat) (b : Nat) (r : Int32) (hf : k12_kind  = some r) : Met l yX12_kind (ws_ yX12_kind cX12_kind 1 (some .int)) ({ frames := 1, cells := 0, slots := 0, locals := 32 }) (PcX D s0 nS ad (fun _ => 0) (fun _ _ => 0) nR nG X base [.ref b]) (QcR (some (.int r))) 0 0 (fun _ => False) := by
  refine Met.ofW (cc := cX12_kind) (maxL := 1) (ret := (some .int)) (by decide) rfl ?_
  intro p e s m args below meth c s₁ B hml hv
  obtain ⟨rfl, hK, hY, hB, hW⟩ := hv
  have hx := B.exec
  have hb := B.bytes
  have hr := B.returns
  have hts := atoms_spec (ws := (ws_ yX12_kind cX12_kind 1 (some .int))) B.pre
  have hts : ∀ w ∈ lw_all, w.before _ s = true := fun w h => hts w (List.mem_cons_of_mem _ h)
  have hown : s.vm.findClass RX12 = some m.cls := findClass_of_methodNamed B.named
  have hlocks := B.notSynchronized
  have hRf : 1 ≤ (headSpec (ws_ yX12_kind cX12_kind 1 (some .int)) ({ frames := 1, cells := 0, slots := 0, locals := 32 })).room.frames := Nat.le_refl _
  have hRl : 32 ≤ (headSpec (ws_ yX12_kind cX12_kind 1 (some .int)) ({ frames := 1, cells := 0, slots := 0, locals := 32 })).room.locals := Nat.le_refl _
  have hcs : 0 ≤ (headSpec (ws_ yX12_kind cX12_kind 1 (some .int)) ({ frames := 1, cells := 0, slots := 0, locals := 32 })).room.cells ∧ 0 ≤ (headSpec (ws_ yX12_kind cX12_kind 1 (some .int)) ({ frames := 1, cells := 0, slots := 0, locals := 32 })).room.slots := ⟨Nat.zero_le _, Nat.zero_le _⟩
  have hl := lv_entry ([.ref b]) (n := 1) (Nat.le_of_ble_eq_true rfl)
  rw [lg_entry_eq]
  generalize (lg_sl ([.ref b]) ++ List.replicate (1 - (lg_sl ([.ref b])).length) Slot.unset).toArray = ls at hl ⊢
  have hl : lv_has ls 1 [(0, .ref b)] := hl
  have hf : (some 4) = some r := hf
  refine lv_iconst (v := 4) hx hb dX12_kind_0 (by decide) ?_
  obtain rfl := so1 hf
  exact W.iret hx hb hr (fun t ht _ => ⟨rfl, ht⟩) (fun q hq => by cases hq) dX12_kind_1
theorem k12_kind_ds : yX12_kind.cls = RX12 ∧ yX12_kind.cls ≠ "java/lang/invoke/MethodHandle" ∧ yX12_kind.cls ≠ "java/lang/invoke/VarHandle" ∧ (parseMethodDescriptor yX12_kind.desc).map (fun d => d.parameters.length) = some 0 := by decide +kernel
def k12_pounds (a0 : Int32) (a1 : Int32) : Option (Int32) :=
  some (mnI 10 a0)
set_option maxRecDepth 100000 in
set_option maxHeartbeats 4000000 in
theorem k12_pounds_met (l : Launch) (D : dd_) (s0 : State) (h0 : ∀ w ∈ lw_tbl, va_Nw w s0) (ad : Nat → Nat) (X : va_W) (base : Nat) (b : Nat) (a0 : Int32) (a1 : Int32) (r : Int32) (hf : k12_pounds a0 a1 = some r) : Met l yX12_pounds (ws_ yX12_pounds cX12_pounds 3 (some .int)) ({ frames := 1, cells := 0, slots := 0, locals := 32 }) (PcX D s0 nS ad (fun _ => 0) (fun _ _ => 0) nR nG X base [.ref b, .int a0, .int a1]) (QcR (some (.int r))) 0 0 (fun _ => False) := by
  refine Met.ofW (cc := cX12_pounds) (maxL := 3) (ret := (some .int)) (by decide) rfl ?_
  intro p e s m args below meth c s₁ B hml hv
  obtain ⟨rfl, hK, hY, hB, hW⟩ := hv
  have hx := B.exec
  have hb := B.bytes
  have hr := B.returns
  have hts := atoms_spec (ws := (ws_ yX12_pounds cX12_pounds 3 (some .int))) B.pre
  have hts : ∀ w ∈ lw_all, w.before _ s = true := fun w h => hts w (List.mem_cons_of_mem _ h)
  have hown : s.vm.findClass RX12 = some m.cls := findClass_of_methodNamed B.named
  have hlocks := B.notSynchronized
  have hRf : 1 ≤ (headSpec (ws_ yX12_pounds cX12_pounds 3 (some .int)) ({ frames := 1, cells := 0, slots := 0, locals := 32 })).room.frames := Nat.le_refl _
  have hRl : 32 ≤ (headSpec (ws_ yX12_pounds cX12_pounds 3 (some .int)) ({ frames := 1, cells := 0, slots := 0, locals := 32 })).room.locals := Nat.le_refl _
  have hcs : 0 ≤ (headSpec (ws_ yX12_pounds cX12_pounds 3 (some .int)) ({ frames := 1, cells := 0, slots := 0, locals := 32 })).room.cells ∧ 0 ≤ (headSpec (ws_ yX12_pounds cX12_pounds 3 (some .int)) ({ frames := 1, cells := 0, slots := 0, locals := 32 })).room.slots := ⟨Nat.zero_le _, Nat.zero_le _⟩
  have hl := lv_entry ([.ref b, .int a0, .int a1]) (n := 3) (Nat.le_of_ble_eq_true rfl)
  rw [lg_entry_eq]
  generalize (lg_sl ([.ref b, .int a0, .int a1]) ++ List.replicate (3 - (lg_sl ([.ref b, .int a0, .int a1])).length) Slot.unset).toArray = ls at hl ⊢
  have hl : lv_has ls 3 [(0, .ref b), (1, .int a0), (2, .int a1)] := hl
  have hf : (some (mnI 10 a0)) = some r := hf
  refine lv_bipush (v := 10) hx hb dX12_pounds_0 (by decide) ?_
  refine lv_iload_n hx hb dX12_pounds_2 rfl (lv_at hl 1 rfl) ?_
  refine x_min hx hb hml hl.1 hts hown q816 (Nat.le_trans (Nat.le_of_ble_eq_true rfl) hRf) (Nat.le_trans (Nat.le_of_ble_eq_true rfl) hRl) hcs dX12_pounds_3 ?_
  obtain rfl := so1 hf
  exact W.iret hx hb hr (fun t ht _ => ⟨rfl, ht⟩) (fun q hq => by cases hq) dX12_pounds_6
theorem k12_pounds_ds : yX12_pounds.cls = RX12 ∧ yX12_pounds.cls ≠ "java/lang/invoke/MethodHandle" ∧ yX12_pounds.cls ≠ "java/lang/invoke/VarHandle" ∧ (parseMethodDescriptor yX12_pounds.desc).map (fun d => d.parameters.length) = some 2 := by decide +kernel
def k13_kind : Option (Int32) :=
  some 5
set_option maxRecDepth 100000 in
set_option maxHeartbeats 4000000 in
theorem k13_kind_met (l : Launch) (D : dd_) (s0 : State) (h0 : ∀ w ∈ lw_tbl, va_Nw w s0) (ad : Nat → Nat) (X : va_W) (base : Nat) (b : Nat) (r : Int32) (hf : k13_kind  = some r) : Met l yX13_kind (ws_ yX13_kind cX13_kind 1 (some .int)) ({ frames := 1, cells := 0, slots := 0, locals := 32 }) (PcX D s0 nS ad (fun _ => 0) (fun _ _ => 0) nR nG X base [.ref b]) (QcR (some (.int r))) 0 0 (fun _ => False) := by
  refine Met.ofW (cc := cX13_kind) (maxL := 1) (ret := (some .int)) (by decide) rfl ?_
  intro p e s m args below meth c s₁ B hml hv
  obtain ⟨rfl, hK, hY, hB, hW⟩ := hv
  have hx := B.exec
  have hb := B.bytes
  have hr := B.returns
  have hts := atoms_spec (ws := (ws_ yX13_kind cX13_kind 1 (some .int))) B.pre
  have hts : ∀ w ∈ lw_all, w.before _ s = true := fun w h => hts w (List.mem_cons_of_mem _ h)
  have hown : s.vm.findClass RX13 = some m.cls := findClass_of_methodNamed B.named
  have hlocks := B.notSynchronized
  have hRf : 1 ≤ (headSpec (ws_ yX13_kind cX13_kind 1 (some .int)) ({ frames := 1, cells := 0, slots := 0, locals := 32 })).room.frames := Nat.le_refl _
  have hRl : 32 ≤ (headSpec (ws_ yX13_kind cX13_kind 1 (some .int)) ({ frames := 1, cells := 0, slots := 0, locals := 32 })).room.locals := Nat.le_refl _
  have hcs : 0 ≤ (headSpec (ws_ yX13_kind cX13_kind 1 (some .int)) ({ frames := 1, cells := 0, slots := 0, locals := 32 })).room.cells ∧ 0 ≤ (headSpec (ws_ yX13_kind cX13_kind 1 (some .int)) ({ frames := 1, cells := 0, slots := 0, locals := 32 })).room.slots := ⟨Nat.zero_le _, Nat.zero_le _⟩
  have hl := lv_entry ([.ref b]) (n := 1) (Nat.le_of_ble_eq_true rfl)
  rw [lg_entry_eq]
  generalize (lg_sl ([.ref b]) ++ List.replicate (1 - (lg_sl ([.ref b])).length) Slot.unset).toArray = ls at hl ⊢
  have hl : lv_has ls 1 [(0, .ref b)] := hl
  have hf : (some 5) = some r := hf
  refine lv_iconst (v := 5) hx hb dX13_kind_0 (by decide) ?_
  obtain rfl := so1 hf
  exact W.iret hx hb hr (fun t ht _ => ⟨rfl, ht⟩) (fun q hq => by cases hq) dX13_kind_1
theorem k13_kind_ds : yX13_kind.cls = RX13 ∧ yX13_kind.cls ≠ "java/lang/invoke/MethodHandle" ∧ yX13_kind.cls ≠ "java/lang/invoke/VarHandle" ∧ (parseMethodDescriptor yX13_kind.desc).map (fun d => d.parameters.length) = some 0 := by decide +kernel
def k13_pounds (a0 : Int32) (a1 : Int32) : Option (Int32) :=
  some 0
set_option maxRecDepth 100000 in
set_option maxHeartbeats 4000000 in
theorem k13_pounds_met (l : Launch) (D : dd_) (s0 : State) (h0 : ∀ w ∈ lw_tbl, va_Nw w s0) (ad : Nat → Nat) (X : va_W) (base : Nat) (b : Nat) (a0 : Int32) (a1 : Int32) (r : Int32) (hf : k13_pounds a0 a1 = some r) : Met l yX13_pounds (ws_ yX13_pounds cX13_pounds 3 (some .int)) ({ frames := 1, cells := 0, slots := 0, locals := 32 }) (PcX D s0 nS ad (fun _ => 0) (fun _ _ => 0) nR nG X base [.ref b, .int a0, .int a1]) (QcR (some (.int r))) 0 0 (fun _ => False) := by
  refine Met.ofW (cc := cX13_pounds) (maxL := 3) (ret := (some .int)) (by decide) rfl ?_
  intro p e s m args below meth c s₁ B hml hv
  obtain ⟨rfl, hK, hY, hB, hW⟩ := hv
  have hx := B.exec
  have hb := B.bytes
  have hr := B.returns
  have hts := atoms_spec (ws := (ws_ yX13_pounds cX13_pounds 3 (some .int))) B.pre
  have hts : ∀ w ∈ lw_all, w.before _ s = true := fun w h => hts w (List.mem_cons_of_mem _ h)
  have hown : s.vm.findClass RX13 = some m.cls := findClass_of_methodNamed B.named
  have hlocks := B.notSynchronized
  have hRf : 1 ≤ (headSpec (ws_ yX13_pounds cX13_pounds 3 (some .int)) ({ frames := 1, cells := 0, slots := 0, locals := 32 })).room.frames := Nat.le_refl _
  have hRl : 32 ≤ (headSpec (ws_ yX13_pounds cX13_pounds 3 (some .int)) ({ frames := 1, cells := 0, slots := 0, locals := 32 })).room.locals := Nat.le_refl _
  have hcs : 0 ≤ (headSpec (ws_ yX13_pounds cX13_pounds 3 (some .int)) ({ frames := 1, cells := 0, slots := 0, locals := 32 })).room.cells ∧ 0 ≤ (headSpec (ws_ yX13_pounds cX13_pounds 3 (some .int)) ({ frames := 1, cells := 0, slots := 0, locals := 32 })).room.slots := ⟨Nat.zero_le _, Nat.zero_le _⟩
  have hl := lv_entry ([.ref b, .int a0, .int a1]) (n := 3) (Nat.le_of_ble_eq_true rfl)
  rw [lg_entry_eq]
  generalize (lg_sl ([.ref b, .int a0, .int a1]) ++ List.replicate (3 - (lg_sl ([.ref b, .int a0, .int a1])).length) Slot.unset).toArray = ls at hl ⊢
  have hl : lv_has ls 3 [(0, .ref b), (1, .int a0), (2, .int a1)] := hl
  have hf : (some 0) = some r := hf
  refine lv_iconst (v := 0) hx hb dX13_pounds_0 (by decide) ?_
  obtain rfl := so1 hf
  exact W.iret hx hb hr (fun t ht _ => ⟨rfl, ht⟩) (fun q hq => by cases hq) dX13_pounds_1
theorem k13_pounds_ds : yX13_pounds.cls = RX13 ∧ yX13_pounds.cls ≠ "java/lang/invoke/MethodHandle" ∧ yX13_pounds.cls ≠ "java/lang/invoke/VarHandle" ∧ (parseMethodDescriptor yX13_pounds.desc).map (fun d => d.parameters.length) = some 2 := by decide +kernel
def k10_isVotedFor : Option (Int32) :=
  zO 1
set_option maxRecDepth 100000 in
set_option maxHeartbeats 4000000 in
theorem k10_isVotedFor_met (l : Launch) (D : dd_) (s0 : State) (h0 : ∀ w ∈ lw_tbl, va_Nw w s0) (ad : Nat → Nat) (X : va_W) (base : Nat) (b : Nat) (r : Int32) (hf : k10_isVotedFor  = some r) : Met l yX10_isVotedFor (ws_ yX10_isVotedFor cX10_isVotedFor 1 (some .boolean)) ({ frames := 1, cells := 0, slots := 0, locals := 32 }) (PcX D s0 nS ad (fun _ => 0) (fun _ _ => 0) nR nG X base [.ref b]) (QcR (some (.int r))) 0 0 (fun _ => False) := by
  refine Met.ofW (cc := cX10_isVotedFor) (maxL := 1) (ret := (some .boolean)) (by decide) rfl ?_
  intro p e s m args below meth c s₁ B hml hv
  obtain ⟨rfl, hK, hY, hB, hW⟩ := hv
  have hx := B.exec
  have hb := B.bytes
  have hr := B.returns
  have hts := atoms_spec (ws := (ws_ yX10_isVotedFor cX10_isVotedFor 1 (some .boolean))) B.pre
  have hts : ∀ w ∈ lw_all, w.before _ s = true := fun w h => hts w (List.mem_cons_of_mem _ h)
  have hown : s.vm.findClass RX10 = some m.cls := findClass_of_methodNamed B.named
  have hlocks := B.notSynchronized
  have hRf : 1 ≤ (headSpec (ws_ yX10_isVotedFor cX10_isVotedFor 1 (some .boolean)) ({ frames := 1, cells := 0, slots := 0, locals := 32 })).room.frames := Nat.le_refl _
  have hRl : 32 ≤ (headSpec (ws_ yX10_isVotedFor cX10_isVotedFor 1 (some .boolean)) ({ frames := 1, cells := 0, slots := 0, locals := 32 })).room.locals := Nat.le_refl _
  have hcs : 0 ≤ (headSpec (ws_ yX10_isVotedFor cX10_isVotedFor 1 (some .boolean)) ({ frames := 1, cells := 0, slots := 0, locals := 32 })).room.cells ∧ 0 ≤ (headSpec (ws_ yX10_isVotedFor cX10_isVotedFor 1 (some .boolean)) ({ frames := 1, cells := 0, slots := 0, locals := 32 })).room.slots := ⟨Nat.zero_le _, Nat.zero_le _⟩
  have hl := lv_entry ([.ref b]) (n := 1) (Nat.le_of_ble_eq_true rfl)
  rw [lg_entry_eq]
  generalize (lg_sl ([.ref b]) ++ List.replicate (1 - (lg_sl ([.ref b])).length) Slot.unset).toArray = ls at hl ⊢
  have hl : lv_has ls 1 [(0, .ref b)] := hl
  have hf : (zO 1) = some r := hf
  refine lv_iconst (v := 1) hx hb dX10_isVotedFor_0 (by decide) ?_
  obtain ⟨hz, rfl⟩ := zO_e hf
  exact W.zret hx hb hr (nar_z hz) (fun t ht _ => ⟨rfl, ht⟩) (fun q hq => by cases hq) dX10_isVotedFor_1
theorem k10_isVotedFor_ds : yX10_isVotedFor.cls = RX10 ∧ yX10_isVotedFor.cls ≠ "java/lang/invoke/MethodHandle" ∧ yX10_isVotedFor.cls ≠ "java/lang/invoke/VarHandle" ∧ (parseMethodDescriptor yX10_isVotedFor.desc).map (fun d => d.parameters.length) = some 0 := by decide +kernel
def k12_grows : Option (Int32) :=
  zO 1
set_option maxRecDepth 100000 in
set_option maxHeartbeats 4000000 in
theorem k12_grows_met (l : Launch) (D : dd_) (s0 : State) (h0 : ∀ w ∈ lw_tbl, va_Nw w s0) (ad : Nat → Nat) (X : va_W) (base : Nat) (b : Nat) (r : Int32) (hf : k12_grows  = some r) : Met l yX12_grows (ws_ yX12_grows cX12_grows 1 (some .boolean)) ({ frames := 1, cells := 0, slots := 0, locals := 32 }) (PcX D s0 nS ad (fun _ => 0) (fun _ _ => 0) nR nG X base [.ref b]) (QcR (some (.int r))) 0 0 (fun _ => False) := by
  refine Met.ofW (cc := cX12_grows) (maxL := 1) (ret := (some .boolean)) (by decide) rfl ?_
  intro p e s m args below meth c s₁ B hml hv
  obtain ⟨rfl, hK, hY, hB, hW⟩ := hv
  have hx := B.exec
  have hb := B.bytes
  have hr := B.returns
  have hts := atoms_spec (ws := (ws_ yX12_grows cX12_grows 1 (some .boolean))) B.pre
  have hts : ∀ w ∈ lw_all, w.before _ s = true := fun w h => hts w (List.mem_cons_of_mem _ h)
  have hown : s.vm.findClass RX12 = some m.cls := findClass_of_methodNamed B.named
  have hlocks := B.notSynchronized
  have hRf : 1 ≤ (headSpec (ws_ yX12_grows cX12_grows 1 (some .boolean)) ({ frames := 1, cells := 0, slots := 0, locals := 32 })).room.frames := Nat.le_refl _
  have hRl : 32 ≤ (headSpec (ws_ yX12_grows cX12_grows 1 (some .boolean)) ({ frames := 1, cells := 0, slots := 0, locals := 32 })).room.locals := Nat.le_refl _
  have hcs : 0 ≤ (headSpec (ws_ yX12_grows cX12_grows 1 (some .boolean)) ({ frames := 1, cells := 0, slots := 0, locals := 32 })).room.cells ∧ 0 ≤ (headSpec (ws_ yX12_grows cX12_grows 1 (some .boolean)) ({ frames := 1, cells := 0, slots := 0, locals := 32 })).room.slots := ⟨Nat.zero_le _, Nat.zero_le _⟩
  have hl := lv_entry ([.ref b]) (n := 1) (Nat.le_of_ble_eq_true rfl)
  rw [lg_entry_eq]
  generalize (lg_sl ([.ref b]) ++ List.replicate (1 - (lg_sl ([.ref b])).length) Slot.unset).toArray = ls at hl ⊢
  have hl : lv_has ls 1 [(0, .ref b)] := hl
  have hf : (zO 1) = some r := hf
  refine lv_iconst (v := 1) hx hb dX12_grows_0 (by decide) ?_
  obtain ⟨hz, rfl⟩ := zO_e hf
  exact W.zret hx hb hr (nar_z hz) (fun t ht _ => ⟨rfl, ht⟩) (fun q hq => by cases hq) dX12_grows_1
theorem k12_grows_ds : yX12_grows.cls = RX12 ∧ yX12_grows.cls ≠ "java/lang/invoke/MethodHandle" ∧ yX12_grows.cls ≠ "java/lang/invoke/VarHandle" ∧ (parseMethodDescriptor yX12_grows.desc).map (fun d => d.parameters.length) = some 0 := by decide +kernel
