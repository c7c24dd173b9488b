/-! FINDINGS: made, thrown by must -/
set_option maxRecDepth 100000
theorem AP.chg {S : sp_} {ad : Nat → Nat} {X : va_W} {base q : Nat} {ce ce' : va_E} (h : AP S ad (X ++ [(q, ce)]) base) : AP S ad (X ++ [(q, ce')]) base := by
  have key : ∀ z ∈ X ++ [(q, ce')], ∃ z' ∈ X ++ [(q, ce)], z'.1 = z.1 := by
    intro z hz
    rcases List.mem_append.mp hz with h1 | h1
    · exact ⟨z, List.mem_append_left _ h1, rfl⟩
    · exact ⟨(q, ce), List.mem_append_right _ (List.mem_singleton.mpr rfl), by rw [List.mem_singleton.mp h1]⟩
  have hd : (X ++ [(q, ce')]) = (X ++ [(q, ce)]).set X.length (q, ce') := by simp
  refine ⟨h.1, fun i hi z hz => ?_, ?_, h.2.2.2⟩
  · obtain ⟨z', h1, h2⟩ := key z hz
    rw [← h2]
    exact h.2.1 i hi z' h1
  · rw [hd]
    exact va_D.set (e0 := ce) h.2.2.1 (by simp)
theorem last_in {D : dd_} {S : sp_} {ad : Nat → Nat} {I : Nat → Int32} {A : Nat → Nat → Int32} {R : Nat → Option Nat} {G : Nat → Nat → Option Nat} {X : va_W} {q : Nat} {ce : va_E} {w1 : va_W} (h1 : w1 = [(q, ce)]) : ∀ z ∈ w1 ++ (wl D S ad I A R G ++ X), z ∈ wl D S ad I A R G ++ (X ++ [(q, ce)]) := by
  intro z hz
  subst h1
  rcases List.mem_append.mp hz with h | h
  · exact List.mem_append_right _ (List.mem_append_right _ h)
  · rcases List.mem_append.mp h with h | h
    · exact List.mem_append_left _ h
    · exact List.mem_append_right _ (List.mem_append_left _ h)
theorem last_out {D : dd_} {S : sp_} {ad : Nat → Nat} {I : Nat → Int32} {A : Nat → Nat → Int32} {R : Nat → Option Nat} {G : Nat → Nat → Option Nat} {X : va_W} {q : Nat} {ce : va_E} {w1 : va_W} (h1 : w1 = [(q, ce)]) : ∀ z ∈ wl D S ad I A R G ++ (X ++ [(q, ce)]), z ∈ w1 ++ (wl D S ad I A R G ++ X) := by
  intro z hz
  subst h1
  rcases List.mem_append.mp hz with h | h
  · exact List.mem_append_right _ (List.mem_append_left _ h)
  · rcases List.mem_append.mp h with h | h
    · exact List.mem_append_right _ (List.mem_append_right _ h)
    · exact List.mem_append_left _ h
abbrev fi0 : List Value := [.null, .null, .null, .null, .null, .int 0, .int 0]
def fiF (R : Nat → Option Nat) (k : Int32) : List Value := [va_rf (R 0), va_rf (R 1), va_rf (R 2), va_rf (R 3), va_rf (R 4), .int 0, .int k]
theorem fi_val (r1 r2 : Option Nat) (de : Nat) (ad : Nat → Nat) (k : Int32) : ∃ R1, fi_X4_init (fun _ => 0) nR r1 r2 de ad k = some (upd (fun _ => 0) 6 k, R1) := by
  simp [fi_X4_init, fi_J4_init, fi_J3_init_2, ob1]
section FI
variable {p : Program} {l : Launch} {e : Env} {R0 : Room} {s : State} {m : MethodId} {args : Array Value} {below : List Frame} {meth : Method} {c : Code} {H : Heap} {locs : List Loc} {cells slots : Nat} {Q : State → Prop}
variable {cc : ByteArray} {pc nL : Nat} {ls : Array Slot} {rest : List Value} {D : dd_} {s0 : State} {S : sp_} {ad : Nat → Nat} {I : Nat → Int32} {A : Nat → Nat → Int32} {R : Nat → Option Nat} {G : Nat → Nat → Option Nat} {X : va_W} {base : Nat}
set_option maxHeartbeats 4000000 in
/-- a Finding's constructor, called in PromisePounds -/
theorem fi_call {r1 r2 : Option Nat} {de q : Nat} {k : Int32} (hx : p.tables.exec = Jvm.exec) (hb : c.code = cc) (hml : c.maxLocals = nL) (hown : s.vm.findClass RX0 = some m.cls) (hts : ∀ w ∈ lw_all, w.before args s = true) (hK : Kx D s) (hY : s0.WarmedH s.vm) (h0 : ∀ w ∈ lw_tbl, va_Nw w s0) (hz : FZ base s0 r1 r2 de) (hRf : 4 ≤ R0.frames) (hRl : 101 ≤ R0.locals) (hcs : cells ≤ R0.cells ∧ slots ≤ R0.slots) (hq0 : ∀ q : Nat, q < base → s.heap[q]? = s0.heap[q]?) (hB0 : base ≤ s.heap.size) (hw : wfS S) (hAP : AP S ad (X ++ [(q, .inr (4, fi0))]) base) (hW : WX D S ad I A R G (X ++ [(q, .inr (4, fi0))]) H) (hS : va_S (upB base) s.heap H locs) (hls : ls.size = nL) (hr : (rest.map fun v => v.category).sum ≤ 8) (hdg : decode cc pc = .ok (.invokespecial 80, 3))
    (kk : ∀ (H1 : Heap) (locs1 : List Loc) (R1 : Nat → Option Nat), WX D S ad I A R G (X ++ [(q, .inr (4, fiF R1 k))]) H1 → va_S (upB base) s.heap H1 locs1 → W p l e R0 s m args below meth c H1 locs1 cells slots Q (F0 m (pc + 3) ls rest)) : W p l e R0 s m args below meth c H locs cells slots Q (F0 m pc ls (.int k :: .ref q :: rest)) := by
  obtain ⟨R1, hf⟩ := fi_val r1 r2 de (fun _ => q) k
  have hW1 : WX D fiS (fun _ => q) (fun _ => 0) (fun _ _ => 0) nR nG (wl D S ad I A R G ++ X) H := vaP_mem hW (last_in rfl)
  refine z_end (Post := fun H => WX D fiS (fun _ => q) (upd (fun _ => 0) 6 k) (fun _ _ => 0) R1 nG (wl D S ad I A R G ++ X) H) (ov := none) (va_runI (g := F0 m pc ls (.int k :: .ref q :: rest)) (b := q) (As := [.int k]) (rest := rest) ⟨hx, hb, hml, hown, hts⟩ (fi_X4_init_met l D s0 h0 (fun _ => q) (wl D S ad I A R G ++ X) base (AP.last hw hAP (by decide +kernel)) (fun _ => 0) nR r1 r2 de hz k _ R1 hf) (cwI 1 hts (lw_meth q334) rfl rfl rfl (hts _ q85) (hts _ q332) (hts _ q333) rfl (by decide +kernel) ⟨hRf, hRl⟩) ⟨PcZ_blind, pcz_at hY hK (Nat.le_trans hB0 hS.1) hW1 (z_low hq0 hB0 hS)⟩ rfl rfl hls rfl (lv_room (m := m) (pc := pc) (ls := ls) (rest := []) hr) hdg hcs) hS (fun H1 locs1 hW2 _ hS2 => ?_)
  exact kk H1 locs1 R1 (vaP_mem hW2 (last_out rfl)) hS2
end FI
def FiT (D : dd_) (S : sp_) (ad : Nat → Nat) (I : Nat → Int32) (A : Nat → Nat → Int32) (R : Nat → Option Nat) (G : Nat → Nat → Option Nat) (X : va_W) (base : Nat) (k : Int32) (x : Addr) (H : Heap) : Prop := ∃ R1 : Nat → Option Nat, WX D S ad I A R G (X ++ [(x, .inr (4, fiF R1 k))]) H ∧ AP S ad (X ++ [(x, .inr (4, fiF R1 k))]) base
set_option maxHeartbeats 4000000 in
/-- must: it throws -/
theorem must_thr (l : Launch) (D : dd_) (s0 : State) (h0 : ∀ w ∈ lw_tbl, va_Nw w s0) (S : sp_) (hw : wfS S) (ad : Nat → Nat) (X : va_W) (base : Nat) (hAP : AP S ad X base) (I : Nat → Int32) (A : Nat → Nat → Int32) (R : Nat → Option Nat) (G : Nat → Nat → Option Nat) (r1 r2 : Option Nat) (de : Nat) (hz : FZ base s0 r1 r2 de) (k : Int32) : MetT l yX0_must (ws_ yX0_must cX0_must 2 none) ({ frames := 4, cells := 1, slots := 7, locals := 101 }) (PcZ D s0 S ad I A R G X base [.int 0, .int k]) (QtE (FiT D S ad I A R G X base k) base) 1 7 (upB base) := by
  refine MetT.ofW (cc := cX0_must) (maxL := 2) (ret := none) (by decide) rfl ?_
  intro p e s m args below meth c s₁ B hml hv
  obtain ⟨⟨rfl, hK, hY, hB0, hW⟩, hq0⟩ := hv
  have hx := B.exec
  have hb := B.bytes
  have hts0 := atoms_spec (ws := ws_ yX0_must cX0_must 2 none) B.pre
  have hts : ∀ w ∈ lw_all, w.before _ s = true := fun w h => hts0 w (List.mem_cons_of_mem _ h)
  have hown : s.vm.findClass RX0 = some m.cls := findClass_of_methodNamed B.named
  have hout : ∀ x ∈ c.exceptionTable.toList, covers x 12 = false := by
    have h1 := B.noHandlers (hts0 _ List.mem_cons_self)
    intro x hx
    rw [Array.isEmpty_iff] at h1
    rw [h1] at hx
    cases hx
  have hS : va_S (upB base) s.heap s.heap [] := va_S.rf
  have hl := lv_entry ([.int 0, .int k]) (n := 2) (Nat.le_of_ble_eq_true rfl)
  rw [lg_entry_eq]
  generalize (lg_sl ([.int 0, .int k]) ++ List.replicate (2 - (lg_sl ([.int 0, .int k])).length) Slot.unset).toArray = ls at hl ⊢
  have hl : lv_has ls 2 [(0, .int 0), (1, .int k)] := hl
  refine lv_iload_n hx hb dX0_must_0 rfl (lv_at hl 0 rfl) ?_
  refine lv_if_ne (tgt := 13) hx hb dX0_must_1 (by decide) (fun c1 => absurd rfl c1) (fun _ => ?_)
  refine x_new (ci := 4) (fs := fi0) (C := RX4) (T := TX4) (N := 7) hx hb hts hown hK hAP hW hS hB0 in_X4 tyX4 tyX4_ok q280 q293 q85 rfl (fun j hj => by rcases (show j = 0 ∨ j = 1 ∨ j = 2 ∨ j = 3 ∨ j = 4 ∨ j = 5 ∨ j = 6 by omega) with rfl | rfl | rfl | rfl | rfl | rfl | rfl <;> rfl) (Nat.le_of_ble_eq_true rfl) (Nat.le_of_ble_eq_true rfl) dX0_must_4 (fun H hsz hW hAP hS => ?_)
  refine lv_dup hx hb dX0_must_7 rfl ?_
  refine lv_iload_n hx hb dX0_must_8 rfl (lv_at hl 1 rfl) ?_
  refine fi_call hx hb hml hown hts hK hY h0 hz (Nat.le_of_ble_eq_true rfl) (Nat.le_of_ble_eq_true rfl) ⟨Nat.le_of_ble_eq_true rfl, Nat.le_of_ble_eq_true rfl⟩ hq0 hB0 hw hAP hW hS hl.1 (Nat.le_of_ble_eq_true rfl) dX0_must_9 (fun H locs R1 hW hS => ?_)
  exact w_athrow hx hb B.notSynchronized hout (fun t ht _ => ⟨⟨R1, by rw [ht]; exact hW, hAP.chg⟩, hS.F ht⟩) hS.2.2 dX0_must_12
