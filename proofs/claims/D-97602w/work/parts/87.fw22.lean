/-! FRAMEWORK 22: Row.row as a row of the walk -/
set_option maxRecDepth 100000
section R22
variable {p : Program} {l : Launch} {e : Env} {R0 : Room} {s : State} {m : MethodId} {args : Array Value} {below : List Frame} {meth : Method} {c : Code} {H : Heap} {locs : List Loc} {cells slots mc ms : Nat} {Q : State → Prop}
variable {cc : ByteArray} {pc nL : Nat} {ls : Array Slot} {rest st0 : List Value} {D : dd_} {s0 : State} {ad : Nat → Nat} {I : Nat → Int32} {A : Nat → Nat → Int32} {R : Nat → Option Nat} {G : Nat → Nat → Option Nat} {X : va_W} {base : Nat}
variable {own : Nat → Nat} {af : Nat → Nat → Nat} {ra : Nat → Nat × Nat} {ta : Nat × Nat} {Z : Dyn}
theorem RunT.mono {g : JFrame} {Qa Qb : State → Addr → State → Prop} {free : Addr → Prop} (h : RunT p l e R0 s m args below meth c H locs cells slots mc ms g rest Qa free) (hq : ∀ st x t, Qa st x t → Qb st x t) : RunT p l e R0 s m args below meth c H locs cells slots mc ms g rest Qb free := by
  intro T hT X
  obtain ⟨x, st₀, t, T', L, h1, h2, h3, h4, h5, h6, h7⟩ := h T hT X
  exact ⟨x, st₀, t, T', L, h1, h2, h3, h4, h5, hq _ _ _ h6, h7⟩
theorem fit_up (hI : Inj xS ad) {k : Int32} {x : Addr} {H1 : Heap} (h : FiT D nS id (fun _ => 0) (fun _ _ => 0) nR nG (wl D xS ad I A R G ++ X) base k x H1) : FiT D xS ad I A R G X base k x H1 := by
  obtain ⟨R1, h1, h2⟩ := h
  exact ⟨R1, flat_wx h1, flat_ap hI h2.2.2.1⟩
set_option maxHeartbeats 4000000 in
theorem row_call {b q k i0 mm : Nat} {z iv : Int32} {e0 : Nat → Int32} (hx : p.tables.exec = Jvm.exec) (hb : c.code = cc) (hml : c.maxLocals = nL) (hown : s.vm.findClass RX0 = some m.cls) (hts : ∀ w ∈ lw_all, w.before args s = true) (hK : Kx D s) (hY : s0.WarmedH s.vm) (h0 : ∀ w ∈ lw_tbl, va_Nw w s0) (hRf : 3 ≤ R0.frames) (hRl : 83 ≤ R0.locals) (hcc : cells + 1 ≤ R0.cells) (hss : slots + (0 + k) ≤ R0.slots) (hq0 : ∀ q : Nat, q < base → s.heap[q]? = s0.heap[q]?) (hB0 : base ≤ s.heap.size) (hF : XF D own af ra ta Z R G X) (hAP : AP xS ad X base) (hW : WX D xS ad I A R G X H) (hS : va_S (upB base) s.heap H locs) (hm : (b, Sum.inr (5, [.int z, .ref q])) ∈ X) (hm2 : (q, Sum.inl (D.2 .int, mm, Sum.inl e0)) ∈ X) (hmm : mm ≤ 40) (hik : i0 + k ≤ mm) (hiv : iv = nI i0) (hls : ls.size = nL) (hr : (rest.map fun v => v.category).sum ≤ 8) (hdg : decode cc pc = .ok (.invokevirtual 344, 3))
    (kk : ∀ (H1 : Heap) (locs1 : List Loc) (X1 : va_W) (own1 : Nat → Nat) (a : Nat), XF D own1 af ra ta Z R G X1 → AP xS ad X1 base → WX D xS ad I A R G X1 H1 → va_S (upB base) s.heap H1 locs1 → (a, Sum.inl (D.2 .int, k, Sum.inl (va_cpy e0 (fun _ => 0) i0 0 k))) ∈ X1 → W p l e R0 s m args below meth c H1 locs1 (cells + 1) (slots + (0 + k)) Q (F0 m (pc + 3) ls (.ref a :: rest))) : W p l e R0 s m args below meth c H locs cells slots Q (F0 m pc ls (.int (nI k) :: .int iv :: .ref b :: rest)) := by
  subst hiv
  have hA : FA (wl D xS ad I A R G ++ X) base := wx_D xwf hAP
  refine z_endR (va_runV (g := F0 m pc ls (.int (nI k) :: .int (nI i0) :: .ref b :: rest)) (b := b) (As := [.int (nI i0), .int (nI k)]) (rest := rest) (C := RX5) ⟨hx, hb, hml, hown, hts⟩ (rw_row_met l D s0 h0 (wl D xS ad I A R G ++ X) base b q z mm e0 i0 k hik (List.mem_append_right _ hm) (List.mem_append_right _ hm2) hmm hA) (cwV 2 hts (lw_V q1028 q1029 q1030 q86 q1031) rfl rfl rfl rw_row_ds ⟨hRf, hRl⟩) ⟨PcZ_blind, x_recvD (ci := 5) hK hW hm rfl, pcz_at (Sc := nS) (adc := id) (Ic := fun _ => 0) (Ac := fun _ _ => 0) (Rc := nR) (Gc := nG) hY hK (Nat.le_trans hB0 hS.1) hW (z_low hq0 hB0 hS)⟩ rfl rfl hls rfl (lv_room (m := m) (pc := pc) (ls := ls) (rest := rest) hr) hdg ⟨hcc, hss⟩) hS (fun a H1 locs1 hP _ hS1 => ?_)
  obtain ⟨hW1, hA1⟩ := hP
  have hoff := hA1.off
  exact kk H1 locs1 (X ++ [(a, .inl (D.2 .int, k, .inl (va_cpy e0 (fun _ => 0) i0 0 k)))]) (ownN own [(a, .inl (D.2 .int, k, .inl (va_cpy e0 (fun _ => 0) i0 0 k)))] (fun _ => 500)) a (hF.grow (fun q hq => ownN_old (hoff q (List.mem_append_right _ hq))) (fun q hq => List.mem_append_left _ hq)) (flat_ap hAP.1 hA1) (flat_wx hW1) hS1 (List.mem_append_right _ (List.mem_singleton.mpr rfl))
end R22
