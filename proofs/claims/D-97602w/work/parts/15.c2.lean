/-! lists -/
def al_size (z : Int32) : Option (Int32) :=
  some z
set_option maxRecDepth 100000 in
set_option maxHeartbeats 4000000 in
theorem al_size_met (l : Launch) (D : dd_) (s0 : State) (h0 : ∀ w ∈ lw_tbl, va_Nw w s0) (ad : Nat → Nat) (X : va_W) (base : Nat) (z : Int32) (b : Nat) (mc : Int32) (ed : Nat) (hm : (b, Sum.inr (13, [.int mc, .ref ed, .int z])) ∈ X) (r : Int32) (hf : al_size z  = some r) : Met l yJ2_size (ws_ yJ2_size cJ2_size 1 (some .int)) ({ frames := 1, cells := 0, slots := 0, locals := 32 }) (PcX D s0 nS ad (fun _ => 0) (fun _ _ => 0) nR nG X base [.ref b]) (QcR (some (.int r))) 0 0 (fun _ => False) := by
  refine Met.ofW (cc := cJ2_size) (maxL := 1) (ret := (some .int)) (by decide) rfl ?_
  intro p e s m args below meth c s₁ B hml hv
  obtain ⟨rfl, hK, hY, hB, hW⟩ := hv
  have hx := B.exec
  have hb := B.bytes
  have hr := B.returns
  have hts := atoms_spec (ws := (ws_ yJ2_size cJ2_size 1 (some .int))) B.pre
  have hts : ∀ w ∈ lw_all, w.before _ s = true := fun w h => hts w (List.mem_cons_of_mem _ h)
  have hown : s.vm.findClass RJ2 = some m.cls := findClass_of_methodNamed B.named
  have hlocks := B.notSynchronized
  have hRf : 1 ≤ (headSpec (ws_ yJ2_size cJ2_size 1 (some .int)) ({ frames := 1, cells := 0, slots := 0, locals := 32 })).room.frames := Nat.le_refl _
  have hRl : 32 ≤ (headSpec (ws_ yJ2_size cJ2_size 1 (some .int)) ({ frames := 1, cells := 0, slots := 0, locals := 32 })).room.locals := Nat.le_refl _
  have hcs : 0 ≤ (headSpec (ws_ yJ2_size cJ2_size 1 (some .int)) ({ frames := 1, cells := 0, slots := 0, locals := 32 })).room.cells ∧ 0 ≤ (headSpec (ws_ yJ2_size cJ2_size 1 (some .int)) ({ frames := 1, cells := 0, slots := 0, locals := 32 })).room.slots := ⟨Nat.zero_le _, Nat.zero_le _⟩
  have hl := lv_entry ([.ref b]) (n := 1) (Nat.le_of_ble_eq_true rfl)
  rw [lg_entry_eq]
  generalize (lg_sl ([.ref b]) ++ List.replicate (1 - (lg_sl ([.ref b])).length) Slot.unset).toArray = ls at hl ⊢
  have hl : lv_has ls 1 [(0, .ref b)] := hl
  have hf : (some z) = some r := hf
  refine lv_aload_n hx hb dJ2_size_0 rfl (lv_at hl 0 rfl) ?_
  refine x_getD (v := .int z) hx hb hts hown hK hW hm in_J2 rfl 2 (by decide) q140 (fun _ h => h) rfl dJ2_size_1 ?_
  obtain rfl := so1 hf
  exact W.iret hx hb hr (fun t ht _ => ⟨rfl, ht⟩) (fun q hq => by cases hq) dJ2_size_4
theorem al_size_ds : yJ2_size.cls = RJ2 ∧ yJ2_size.cls ≠ "java/lang/invoke/MethodHandle" ∧ yJ2_size.cls ≠ "java/lang/invoke/VarHandle" ∧ (parseMethodDescriptor yJ2_size.desc).map (fun d => d.parameters.length) = some 0 := by decide +kernel
def al_elementData (z : Int32) (a0 : Int32) : Option (Unit) :=
  some ()
set_option maxRecDepth 100000 in
set_option maxHeartbeats 4000000 in
theorem al_elementData_met (l : Launch) (D : dd_) (s0 : State) (h0 : ∀ w ∈ lw_tbl, va_Nw w s0) (ad : Nat → Nat) (X : va_W) (base : Nat) (z : Int32) (b : Nat) (mc : Int32) (ed : Nat) (hm : (b, Sum.inr (13, [.int mc, .ref ed, .int z])) ∈ X) (a0 : Int32) (cap : Nat) (gg : Nat → Option Nat) (pa : Nat) (hma : (ed, Sum.inl (D.2 (.object "java/lang/Object"), cap, Sum.inr (Sum.inr (Sum.inr (Sum.inr gg))))) ∈ X) (hin : vp_in a0 cap) (hpa : gg a0.toNatClampNeg = some pa) (hf : al_elementData z a0 = some ()) : Met l yJ2_elementData (ws_ yJ2_elementData cJ2_elementData 2 (some (.object "java/lang/Object"))) ({ frames := 1, cells := 0, slots := 0, locals := 32 }) (PcX D s0 nS ad (fun _ => 0) (fun _ _ => 0) nR nG X base [.ref b, .int a0]) (QcR (some (.ref pa))) 0 0 (fun _ => False) := by
  refine Met.ofW (cc := cJ2_elementData) (maxL := 2) (ret := (some (.object "java/lang/Object"))) (by decide) rfl ?_
  intro p e s m args below meth c s₁ B hml hv
  obtain ⟨rfl, hK, hY, hB, hW⟩ := hv
  have hx := B.exec
  have hb := B.bytes
  have hr := B.returns
  have hts := atoms_spec (ws := (ws_ yJ2_elementData cJ2_elementData 2 (some (.object "java/lang/Object")))) B.pre
  have hts : ∀ w ∈ lw_all, w.before _ s = true := fun w h => hts w (List.mem_cons_of_mem _ h)
  have hown : s.vm.findClass RJ2 = some m.cls := findClass_of_methodNamed B.named
  have hlocks := B.notSynchronized
  have hRf : 1 ≤ (headSpec (ws_ yJ2_elementData cJ2_elementData 2 (some (.object "java/lang/Object"))) ({ frames := 1, cells := 0, slots := 0, locals := 32 })).room.frames := Nat.le_refl _
  have hRl : 32 ≤ (headSpec (ws_ yJ2_elementData cJ2_elementData 2 (some (.object "java/lang/Object"))) ({ frames := 1, cells := 0, slots := 0, locals := 32 })).room.locals := Nat.le_refl _
  have hcs : 0 ≤ (headSpec (ws_ yJ2_elementData cJ2_elementData 2 (some (.object "java/lang/Object"))) ({ frames := 1, cells := 0, slots := 0, locals := 32 })).room.cells ∧ 0 ≤ (headSpec (ws_ yJ2_elementData cJ2_elementData 2 (some (.object "java/lang/Object"))) ({ frames := 1, cells := 0, slots := 0, locals := 32 })).room.slots := ⟨Nat.zero_le _, Nat.zero_le _⟩
  have hl := lv_entry ([.ref b, .int a0]) (n := 2) (Nat.le_of_ble_eq_true rfl)
  rw [lg_entry_eq]
  generalize (lg_sl ([.ref b, .int a0]) ++ List.replicate (2 - (lg_sl ([.ref b, .int a0])).length) Slot.unset).toArray = ls at hl ⊢
  have hl : lv_has ls 2 [(0, .ref b), (1, .int a0)] := hl
  have hf : (some ()) = some () := hf
  refine lv_aload_n hx hb dJ2_elementData_0 rfl (lv_at hl 0 rfl) ?_
  refine x_getD (v := .ref ed) hx hb hts hown hK hW hm in_J2 rfl 1 (by decide) q139 (fun _ h => h) rfl dJ2_elementData_1 ?_
  refine lv_iload_n hx hb dJ2_elementData_4 rfl (lv_at hl 1 rfl) ?_
  refine x_aaldD hx hb hK hW (by decide) hma hin dJ2_elementData_5 ?_
  rw [hpa]
  exact W.aret hx hb hr (Or.inl ⟨_, rfl⟩) (Or.inr ⟨_, rfl⟩) (fun t ht _ => ⟨rfl, ht⟩) (fun q hq => by cases hq) dJ2_elementData_6
theorem al_elementData_ds : yJ2_elementData.cls = RJ2 ∧ yJ2_elementData.cls ≠ "java/lang/invoke/MethodHandle" ∧ yJ2_elementData.cls ≠ "java/lang/invoke/VarHandle" ∧ (parseMethodDescriptor yJ2_elementData.desc).map (fun d => d.parameters.length) = some 1 := by decide +kernel
def al_get (z : Int32) (a0 : Int32) : Option (Unit) :=
  ob1 (jo_checkIndex a0 z) fun (v1 : Int32) =>
  some ()
set_option maxRecDepth 100000 in
set_option maxHeartbeats 4000000 in
theorem al_get_met (l : Launch) (D : dd_) (s0 : State) (h0 : ∀ w ∈ lw_tbl, va_Nw w s0) (ad : Nat → Nat) (X : va_W) (base : Nat) (z : Int32) (b : Nat) (mc : Int32) (ed : Nat) (hm : (b, Sum.inr (13, [.int mc, .ref ed, .int z])) ∈ X) (a0 : Int32) (cap : Nat) (gg : Nat → Option Nat) (pa : Nat) (hma : (ed, Sum.inl (D.2 (.object "java/lang/Object"), cap, Sum.inr (Sum.inr (Sum.inr (Sum.inr gg))))) ∈ X) (hin : vp_in a0 cap) (hpa : gg a0.toNatClampNeg = some pa) (hf : al_get z a0 = some ()) : Met l yJ2_get (ws_ yJ2_get cJ2_get 2 (some (.object "java/lang/Object"))) ({ frames := 3, cells := 0, slots := 0, locals := 75 }) (PcX D s0 nS ad (fun _ => 0) (fun _ _ => 0) nR nG X base [.ref b, .int a0]) (QcR (some (.ref pa))) 0 0 (fun _ => False) := by
  refine Met.ofW (cc := cJ2_get) (maxL := 2) (ret := (some (.object "java/lang/Object"))) (by decide) rfl ?_
  intro p e s m args below meth c s₁ B hml hv
  obtain ⟨rfl, hK, hY, hB, hW⟩ := hv
  have hx := B.exec
  have hb := B.bytes
  have hr := B.returns
  have hts := atoms_spec (ws := (ws_ yJ2_get cJ2_get 2 (some (.object "java/lang/Object")))) B.pre
  have hts : ∀ w ∈ lw_all, w.before _ s = true := fun w h => hts w (List.mem_cons_of_mem _ h)
  have hown : s.vm.findClass RJ2 = some m.cls := findClass_of_methodNamed B.named
  have hlocks := B.notSynchronized
  have hRf : 3 ≤ (headSpec (ws_ yJ2_get cJ2_get 2 (some (.object "java/lang/Object"))) ({ frames := 3, cells := 0, slots := 0, locals := 75 })).room.frames := Nat.le_refl _
  have hRl : 75 ≤ (headSpec (ws_ yJ2_get cJ2_get 2 (some (.object "java/lang/Object"))) ({ frames := 3, cells := 0, slots := 0, locals := 75 })).room.locals := Nat.le_refl _
  have hcs : 0 ≤ (headSpec (ws_ yJ2_get cJ2_get 2 (some (.object "java/lang/Object"))) ({ frames := 3, cells := 0, slots := 0, locals := 75 })).room.cells ∧ 0 ≤ (headSpec (ws_ yJ2_get cJ2_get 2 (some (.object "java/lang/Object"))) ({ frames := 3, cells := 0, slots := 0, locals := 75 })).room.slots := ⟨Nat.zero_le _, Nat.zero_le _⟩
  have hl := lv_entry ([.ref b, .int a0]) (n := 2) (Nat.le_of_ble_eq_true rfl)
  rw [lg_entry_eq]
  generalize (lg_sl ([.ref b, .int a0]) ++ List.replicate (2 - (lg_sl ([.ref b, .int a0])).length) Slot.unset).toArray = ls at hl ⊢
  have hl : lv_has ls 2 [(0, .ref b), (1, .int a0)] := hl
  have hf : (ob1 (jo_checkIndex a0 z) fun (v1 : Int32) =>
    some ()) = some () := hf
  refine lv_iload_n hx hb dJ2_get_0 rfl (lv_at hl 1 rfl) ?_
  refine lv_aload_n hx hb dJ2_get_1 rfl (lv_at hl 0 rfl) ?_
  refine x_getD (v := .int z) hx hb hts hown hK hW hm in_J2 rfl 2 (by decide) q140 (fun _ h => h) rfl dJ2_get_2 ?_
  obtain ⟨v1, h1, hf⟩ := ob1_e hf
  refine x_sR (ov := some (.int v1)) (D := D) (s0 := s0) (Sc := nS) (adc := ad) (Ic := (fun _ => 0)) (Ac := (fun _ _ => 0)) (Rc := nR) (Gc := nG) (Xc := []) (base := base) (As := [.int a0, .int z]) (rest := []) ⟨hx, hb, hml, hown, hts⟩ (jo_checkIndex_met l D s0 h0 ad [] base a0 z v1 h1) (va_cwS 2 hts (lw_S q795 q796 q106 q797) rfl rfl rfl jo_checkIndex_ds.2 ⟨Nat.le_trans (Nat.le_of_ble_eq_true rfl) hRf, Nat.le_trans (Nat.le_of_ble_eq_true rfl) hRl⟩) hK hY hB WX_nil hcs rfl hl.1 rfl (Nat.le_of_ble_eq_true rfl) dJ2_get_5 ?_
  refine lv_pop hx hb dJ2_get_8 rfl ?_
  refine lv_aload_n hx hb dJ2_get_9 rfl (lv_at hl 0 rfl) ?_
  refine lv_iload_n hx hb dJ2_get_10 rfl (lv_at hl 1 rfl) ?_
  refine x_vR (ov := some (.ref pa)) (D := D) (s0 := s0) (Sc := nS) (adc := ad) (Ic := fun _ => 0) (Ac := fun _ _ => 0) (Rc := nR) (Gc := nG) (Xc := X) (base := base) (As := [.int a0]) (rest := []) (b := b) (C := RJ2) ⟨hx, hb, hml, hown, hts⟩ (al_elementData_met l D s0 h0 ad X base z b mc ed hm a0 cap gg pa hma hin hpa rfl) (g_cwV 1 hts (lw_V q799 q800 q801 q80 q802) rfl rfl al_elementData_ds ⟨Nat.le_trans (Nat.le_of_ble_eq_true rfl) hRf, Nat.le_trans (Nat.le_of_ble_eq_true rfl) hRl⟩) (x_recvD hK hW hm rfl) hK hY hB hW hcs rfl hl.1 rfl (Nat.le_of_ble_eq_true rfl) dJ2_get_11 ?_
  exact W.aret hx hb hr (Or.inl ⟨_, rfl⟩) (Or.inr ⟨_, rfl⟩) (fun t ht _ => ⟨rfl, ht⟩) (fun q hq => by cases hq) dJ2_get_14
theorem al_get_ds : yJ2_get.cls = RJ2 ∧ yJ2_get.cls ≠ "java/lang/invoke/MethodHandle" ∧ yJ2_get.cls ≠ "java/lang/invoke/VarHandle" ∧ (parseMethodDescriptor yJ2_get.desc).map (fun d => d.parameters.length) = some 1 := by decide +kernel
theorem al_size_v (b : Nat) (mc z : Int32) : True := trivial
theorem jo_ok {i : Int32} {n j : Nat} (hn : n ≤ 5) (h : pgO n i = some j) : jo_checkIndex i (nI n) = some i := by
  obtain ⟨h1, h2⟩ := pgO_e h
  obtain ⟨k, hk, rfl⟩ := vp_in_of h1 (by omega)
  have e1 : ¬ nI k < 0 := nI_pos (by omega)
  have e2 : nI k < nI n := nI_lt hk (by omega)
  simp [jo_checkIndex, jp_checkIndex, e1, e2, ob1]
set_option maxHeartbeats 4000000 in
theorem pe_size_X1 {p : Program} {l : Launch} {e : Env} {R0 : Room} {s : State} {m : MethodId} {args : Array Value} {below : List Frame} {meth : Method} {c : Code} {H : Heap} {locs : List Loc} {cells slots : Nat} {Q : State → Prop} {cc : ByteArray} {pc nL : Nat} {ls : Array Slot} {rest : List Value} {D : dd_} {s0 : State} {S : sp_} {ad : Nat → Nat} {I : Nat → Int32} {A : Nat → Nat → Int32} {R : Nat → Option Nat} {G : Nat → Nat → Option Nat} {X : va_W} {base : Nat} {pl n : Nat} {ks : Nat → Nat} (hx : p.tables.exec = Jvm.exec) (hb : c.code = cc) (hml : c.maxLocals = nL) (hown : s.vm.findClass RX1 = some m.cls) (hts : ∀ w ∈ lw_all, w.before args s = true) (hK : Kx D s) (hY : s0.WarmedH s.vm) (h0 : ∀ w ∈ lw_tbl, va_Nw w s0) (hRf : 2 ≤ R0.frames) (hRl : 52 ≤ R0.locals) (hcs : cells ≤ R0.cells ∧ slots ≤ R0.slots) (hB : base ≤ H.size) (hW : WX D S ad I A R G X H) (hR : RegX D X pl n ks) (hls : ls.size = nL) (hr : (rest.map fun v => v.category).sum ≤ 8) (hdg : decode cc pc = .ok (.invokeinterface 59 1, 5)) (kk : W p l e R0 s m args below meth c H locs cells slots Q (F0 m (pc + 5) ls (.int (nI n) :: rest))) : W p l e R0 s m args below meth c H locs cells slots Q (F0 m pc ls (.ref pl :: rest)) := by
  obtain ⟨mc, ed, h1, -, -⟩ := hR
  have hm2 := List.mem_append_right (wl D S ad I A R G) h1
  exact x_fR (x := ⟨"java/util/List", "size", "()I"⟩) (ov := some (.int (nI n))) (As := []) (D := D) (s0 := s0) (Sc := nS) (adc := ad) (Ic := fun _ => 0) (Ac := fun _ _ => 0) (Rc := nR) (Gc := nG) (Xc := wl D S ad I A R G ++ X) (base := base) (b := pl) (rest := rest) (C := RJ2) (cC := D.1.1 13) (x_cls hK rfl) ⟨hx, hb, hml, hown, hts⟩ (al_size_met l D s0 h0 ad _ base (nI n) pl mc ed hm2 (nI n) rfl) (va_cwF 0 hts (lw_F q606 q610 q612 q80 q614) rfl rfl rfl (va_Fw.moved (by decide) hY.alike (va_Fw.of (A := #[]) (h0 _ q608) (h0 _ q607) (h0 _ q613) (h0 _ q611) (h0 _ q609))) (by decide +kernel) ⟨Nat.le_trans (Nat.le_of_ble_eq_true rfl) hRf, Nat.le_trans (Nat.le_of_ble_eq_true rfl) hRl⟩) (x_recvD hK hW h1 rfl) hK hY hB hW hcs rfl hls rfl hr hdg kk
set_option maxHeartbeats 4000000 in
theorem pe_get_X1 {p : Program} {l : Launch} {e : Env} {R0 : Room} {s : State} {m : MethodId} {args : Array Value} {below : List Frame} {meth : Method} {c : Code} {H : Heap} {locs : List Loc} {cells slots : Nat} {Q : State → Prop} {cc : ByteArray} {pc nL : Nat} {ls : Array Slot} {rest : List Value} {D : dd_} {s0 : State} {S : sp_} {ad : Nat → Nat} {I : Nat → Int32} {A : Nat → Nat → Int32} {R : Nat → Option Nat} {G : Nat → Nat → Option Nat} {X : va_W} {base : Nat} {pl n : Nat} {ks : Nat → Nat} (hx : p.tables.exec = Jvm.exec) (hb : c.code = cc) (hml : c.maxLocals = nL) (hown : s.vm.findClass RX1 = some m.cls) (hts : ∀ w ∈ lw_all, w.before args s = true) (hK : Kx D s) (hY : s0.WarmedH s.vm) (h0 : ∀ w ∈ lw_tbl, va_Nw w s0) (hRf : 4 ≤ R0.frames) (hRl : 96 ≤ R0.locals) (hcs : cells ≤ R0.cells ∧ slots ≤ R0.slots) (hB : base ≤ H.size) (hW : WX D S ad I A R G X H) (hR : RegX D X pl n ks) {i : Int32} {j : Nat} (h : pgO n i = some j) (hls : ls.size = nL) (hr : (rest.map fun v => v.category).sum ≤ 8) (hdg : decode cc pc = .ok (.invokeinterface 69 2, 5)) (kk : ∀ pa : Nat, (pa, Sum.inr (7 + ks j, [.int (nI j)])) ∈ X → 1 ≤ ks j → ks j ≤ 5 → W p l e R0 s m args below meth c H locs cells slots Q (F0 m (pc + 5) ls (.ref pa :: rest))) : W p l e R0 s m args below meth c H locs cells slots Q (F0 m pc ls (.int i :: .ref pl :: rest)) := by
  obtain ⟨mc, ed, h1, hn5, h3⟩ := hR
  obtain ⟨g1, g2⟩ := pgO_e h
  have hj : j < n := by rw [← g2]; exact Nat.not_le.mp fun q => g1 (Or.inr q)
  obtain ⟨k1, k5, cap, gg, pa, c1, c2, c3, c4, c5⟩ := h3 j hj
  have hm2 := List.mem_append_right (wl D S ad I A R G) h1
  have hin : vp_in i cap := fun z => g1 (z.elim Or.inl (fun z2 => absurd z2 (by rw [g2]; omega)))
  exact x_fR (x := ⟨"java/util/List", "get", "(I)Ljava/lang/Object;"⟩) (ov := some (.ref pa)) (As := [.int i]) (D := D) (s0 := s0) (Sc := nS) (adc := ad) (Ic := fun _ => 0) (Ac := fun _ _ => 0) (Rc := nR) (Gc := nG) (Xc := wl D S ad I A R G ++ X) (base := base) (b := pl) (rest := rest) (C := RJ2) (cC := D.1.1 13) (x_cls hK rfl) ⟨hx, hb, hml, hown, hts⟩ (al_get_met l D s0 h0 ad _ base (nI n) pl mc ed hm2 i cap gg pa (List.mem_append_right _ c1) hin (by rw [g2]; exact c4) (by simp [al_get, jo_ok hn5 h, ob1])) (va_cwF 1 hts (lw_F q787 q790 q792 q80 q794) rfl rfl rfl (va_Fw.moved (by decide) hY.alike (va_Fw.of (A := #[]) (h0 _ q789) (h0 _ q788) (h0 _ q793) (h0 _ q791) (h0 _ q609))) (by decide +kernel) ⟨Nat.le_trans (Nat.le_of_ble_eq_true rfl) hRf, Nat.le_trans (Nat.le_of_ble_eq_true rfl) hRl⟩) (x_recvD hK hW h1 rfl) hK hY hB hW hcs rfl hls rfl hr hdg (kk pa c5 k1 k5)
theorem pe_cast_X1 {p : Program} {l : Launch} {e : Env} {R0 : Room} {s : State} {m : MethodId} {args : Array Value} {below : List Frame} {meth : Method} {c : Code} {H : Heap} {locs : List Loc} {cells slots : Nat} {Q : State → Prop} {cc : ByteArray} {pc : Nat} {ls : Array Slot} {rest : List Value} {D : dd_} {s0 : State} {S : sp_} {ad : Nat → Nat} {I : Nat → Int32} {A : Nat → Nat → Int32} {R : Nat → Option Nat} {G : Nat → Nat → Option Nat} {X : va_W} {b kd : Nat} {z : Int32} (hx : p.tables.exec = Jvm.exec) (hb : c.code = cc) (hown : s.vm.findClass RX1 = some m.cls) (hts : ∀ w ∈ lw_all, w.before args s = true) (hK : Kx D s) (hY : s0.WarmedH s.vm) (h0 : ∀ w ∈ lw_tbl, va_Nw w s0) (hW : WX D S ad I A R G X H) (hm : (b, Sum.inr (7 + kd, [.int z])) ∈ X) (h1 : 1 ≤ kd) (h5 : kd ≤ 5) (hdg : decode cc pc = .ok (.checkcast 73, 3)) (kk : W p l e R0 s m args below meth c H locs cells slots Q (F0 m (pc + 3) ls (.ref b :: rest))) : W p l e R0 s m args below meth c H locs cells slots Q (F0 m pc ls (.ref b :: rest)) := by
  have hc : kd = 1 ∨ kd = 2 ∨ kd = 3 ∨ kd = 4 ∨ kd = 5 := by omega
  rcases hc with rfl | rfl | rfl | rfl | rfl
  · exact va_castY (C := RX9) hx hb hown (hts _ q803) (va_Nw.warmC hY (h0 _ q1656)) (x_recvD (ci := 8) hK hW hm rfl) hdg kk
  · exact va_castY (C := RX10) hx hb hown (hts _ q803) (va_Nw.warmC hY (h0 _ q1654)) (x_recvD (ci := 9) hK hW hm rfl) hdg kk
  · exact va_castY (C := RX11) hx hb hown (hts _ q803) (va_Nw.warmC hY (h0 _ q1658)) (x_recvD (ci := 10) hK hW hm rfl) hdg kk
  · exact va_castY (C := RX12) hx hb hown (hts _ q803) (va_Nw.warmC hY (h0 _ q1655)) (x_recvD (ci := 11) hK hW hm rfl) hdg kk
  · exact va_castY (C := RX13) hx hb hown (hts _ q803) (va_Nw.warmC hY (h0 _ q1657)) (x_recvD (ci := 12) hK hW hm rfl) hdg kk
set_option maxHeartbeats 4000000 in
theorem pe_get_X0 {p : Program} {l : Launch} {e : Env} {R0 : Room} {s : State} {m : MethodId} {args : Array Value} {below : List Frame} {meth : Method} {c : Code} {H : Heap} {locs : List Loc} {cells slots : Nat} {Q : State → Prop} {cc : ByteArray} {pc nL : Nat} {ls : Array Slot} {rest : List Value} {D : dd_} {s0 : State} {S : sp_} {ad : Nat → Nat} {I : Nat → Int32} {A : Nat → Nat → Int32} {R : Nat → Option Nat} {G : Nat → Nat → Option Nat} {X : va_W} {base : Nat} {pl n : Nat} {ks : Nat → Nat} (hx : p.tables.exec = Jvm.exec) (hb : c.code = cc) (hml : c.maxLocals = nL) (hown : s.vm.findClass RX0 = some m.cls) (hts : ∀ w ∈ lw_all, w.before args s = true) (hK : Kx D s) (hY : s0.WarmedH s.vm) (h0 : ∀ w ∈ lw_tbl, va_Nw w s0) (hRf : 4 ≤ R0.frames) (hRl : 96 ≤ R0.locals) (hcs : cells ≤ R0.cells ∧ slots ≤ R0.slots) (hB : base ≤ H.size) (hW : WX D S ad I A R G X H) (hR : RegX D X pl n ks) {i : Int32} {j : Nat} (h : pgO n i = some j) (hls : ls.size = nL) (hr : (rest.map fun v => v.category).sum ≤ 8) (hdg : decode cc pc = .ok (.invokeinterface 304 2, 5)) (kk : ∀ pa : Nat, (pa, Sum.inr (7 + ks j, [.int (nI j)])) ∈ X → 1 ≤ ks j → ks j ≤ 5 → W p l e R0 s m args below meth c H locs cells slots Q (F0 m (pc + 5) ls (.ref pa :: rest))) : W p l e R0 s m args below meth c H locs cells slots Q (F0 m pc ls (.int i :: .ref pl :: rest)) := by
  obtain ⟨mc, ed, h1, hn5, h3⟩ := hR
  obtain ⟨g1, g2⟩ := pgO_e h
  have hj : j < n := by rw [← g2]; exact Nat.not_le.mp fun q => g1 (Or.inr q)
  obtain ⟨k1, k5, cap, gg, pa, c1, c2, c3, c4, c5⟩ := h3 j hj
  have hm2 := List.mem_append_right (wl D S ad I A R G) h1
  have hin : vp_in i cap := fun z => g1 (z.elim Or.inl (fun z2 => absurd z2 (by rw [g2]; omega)))
  exact x_fR (x := ⟨"java/util/List", "get", "(I)Ljava/lang/Object;"⟩) (ov := some (.ref pa)) (As := [.int i]) (D := D) (s0 := s0) (Sc := nS) (adc := ad) (Ic := fun _ => 0) (Ac := fun _ _ => 0) (Rc := nR) (Gc := nG) (Xc := wl D S ad I A R G ++ X) (base := base) (b := pl) (rest := rest) (C := RJ2) (cC := D.1.1 13) (x_cls hK rfl) ⟨hx, hb, hml, hown, hts⟩ (al_get_met l D s0 h0 ad _ base (nI n) pl mc ed hm2 i cap gg pa (List.mem_append_right _ c1) hin (by rw [g2]; exact c4) (by simp [al_get, jo_ok hn5 h, ob1])) (va_cwF 1 hts (lw_F q977 q790 q792 q80 q794) rfl rfl rfl (va_Fw.moved (by decide) hY.alike (va_Fw.of (A := #[]) (h0 _ q789) (h0 _ q788) (h0 _ q793) (h0 _ q791) (h0 _ q609))) (by decide +kernel) ⟨Nat.le_trans (Nat.le_of_ble_eq_true rfl) hRf, Nat.le_trans (Nat.le_of_ble_eq_true rfl) hRl⟩) (x_recvD hK hW h1 rfl) hK hY hB hW hcs rfl hls rfl hr hdg (kk pa c5 k1 k5)
theorem pe_cast_X0 {p : Program} {l : Launch} {e : Env} {R0 : Room} {s : State} {m : MethodId} {args : Array Value} {below : List Frame} {meth : Method} {c : Code} {H : Heap} {locs : List Loc} {cells slots : Nat} {Q : State → Prop} {cc : ByteArray} {pc : Nat} {ls : Array Slot} {rest : List Value} {D : dd_} {s0 : State} {S : sp_} {ad : Nat → Nat} {I : Nat → Int32} {A : Nat → Nat → Int32} {R : Nat → Option Nat} {G : Nat → Nat → Option Nat} {X : va_W} {b kd : Nat} {z : Int32} (hx : p.tables.exec = Jvm.exec) (hb : c.code = cc) (hown : s.vm.findClass RX0 = some m.cls) (hts : ∀ w ∈ lw_all, w.before args s = true) (hK : Kx D s) (hY : s0.WarmedH s.vm) (h0 : ∀ w ∈ lw_tbl, va_Nw w s0) (hW : WX D S ad I A R G X H) (hm : (b, Sum.inr (7 + kd, [.int z])) ∈ X) (h1 : 1 ≤ kd) (h5 : kd ≤ 5) (hdg : decode cc pc = .ok (.checkcast 310, 3)) (kk : W p l e R0 s m args below meth c H locs cells slots Q (F0 m (pc + 3) ls (.ref b :: rest))) : W p l e R0 s m args below meth c H locs cells slots Q (F0 m pc ls (.ref b :: rest)) := by
  have hc : kd = 1 ∨ kd = 2 ∨ kd = 3 ∨ kd = 4 ∨ kd = 5 := by omega
  rcases hc with rfl | rfl | rfl | rfl | rfl
  · exact va_castY (C := RX9) hx hb hown (hts _ q978) (va_Nw.warmC hY (h0 _ q1656)) (x_recvD (ci := 8) hK hW hm rfl) hdg kk
  · exact va_castY (C := RX10) hx hb hown (hts _ q978) (va_Nw.warmC hY (h0 _ q1654)) (x_recvD (ci := 9) hK hW hm rfl) hdg kk
  · exact va_castY (C := RX11) hx hb hown (hts _ q978) (va_Nw.warmC hY (h0 _ q1658)) (x_recvD (ci := 10) hK hW hm rfl) hdg kk
  · exact va_castY (C := RX12) hx hb hown (hts _ q978) (va_Nw.warmC hY (h0 _ q1655)) (x_recvD (ci := 11) hK hW hm rfl) hdg kk
  · exact va_castY (C := RX13) hx hb hown (hts _ q978) (va_Nw.warmC hY (h0 _ q1657)) (x_recvD (ci := 12) hK hW hm rfl) hdg kk
