/-! FRAMEWORK 17: new cells get owners; a new parish; contracts made weaker -/
set_option maxRecDepth 100000
theorem Met.lift {l : Launch} {y : MethodName} {ws : List Cond} {rm : Room} {Pc' : Array Value → State → Prop} {Qc' : Array Value → State → Outcome → State → Prop} {mc ms : Nat} {free' : Addr → Prop} (h : ∀ (a : Array Value) (st : State), Pc' a st → ∃ (Pc : Array Value → State → Prop) (Qc : Array Value → State → Outcome → State → Prop) (free : Addr → Prop), Met l y ws rm Pc Qc mc ms free ∧ Pc a st ∧ (∀ o t, Qc a st o t → Qc' a st o t) ∧ ∀ q, free q → free' q) : Met l y ws rm Pc' Qc' mc ms free' := by
  intro p e ha hf hc s m args below hfr happ hP hK
  obtain ⟨Pc, Qc, free, hM, h1, h2, h3⟩ := h args s hP
  obtain ⟨n, o, g1, g2, g3, g4, L, g5, g6⟩ := hM p e ha hf hc s m args below hfr happ h1 hK
  exact ⟨n, o, g1, g2, g3, h2 _ _ g4, L, g5, fun q hq => h3 _ (g6 q hq)⟩
def ownN (own : Nat → Nat) (cs : va_W) (t : Nat → Nat) : Nat → Nat := fun a => if a ∈ cs.map (·.1) then t a else own a
theorem FA.off {L cs : va_W} {base : Nat} (h : FA (L ++ cs) base) : ∀ q ∈ L, q.1 ∉ cs.map (·.1) := by
  intro q hq hm
  obtain ⟨z, hz, e⟩ := List.mem_map.mp hm
  obtain ⟨i, hi⟩ := List.getElem?_of_mem hq
  obtain ⟨j, hj⟩ := List.getElem?_of_mem hz
  have h1 := h.1 _ _ _ _ (app_at hi) (fl_at hj) e.symm
  have h2 := (List.getElem?_eq_some_iff.mp hi).1
  omega
theorem ownN_old {own : Nat → Nat} {cs : va_W} {t : Nat → Nat} {a : Nat} (h : a ∉ cs.map (·.1)) : ownN own cs t a = own a := if_neg h
theorem ownN_new {own : Nat → Nat} {cs : va_W} {t : Nat → Nat} {a : Nat} (h : a ∈ cs.map (·.1)) : ownN own cs t a = t a := if_pos h
theorem new_in {own : Nat → Nat} {cs X : va_W} {t : Nat → Nat} {q : Nat × va_E} {k : Nat} (hq : q ∈ cs) (ht : t q.1 = k) : q ∈ Xt (ownN own cs t) k (X ++ cs) := Xt_mem.mpr ⟨List.mem_append_right _ hq, by rw [ownN_new (List.mem_map.mpr ⟨q, hq, rfl⟩)]; exact ht⟩
section FLT
variable {D : dd_} {S : sp_} {ad : Nat → Nat} {I : Nat → Int32} {A : Nat → Nat → Int32} {R : Nat → Option Nat} {G : Nat → Nat → Option Nat} {X cs : va_W} {base : Nat} {H : Heap}
theorem flat_ap (hI : Inj S ad) (h : FA ((wl D S ad I A R G ++ X) ++ cs) base) : AP S ad (X ++ cs) base := AP.ofFA (D := D) (I := I) (A := A) (R := R) (G := G) hI (by rw [List.append_assoc] at h; exact h)
theorem flat_wx (h : FW D ((wl D S ad I A R G ++ X) ++ cs) H) : WX D S ad I A R G (X ++ cs) H := by
  have h : va_P D.1 vCl ((wl D S ad I A R G ++ X) ++ cs) H := h
  rw [List.append_assoc] at h
  exact h
theorem flat_fw {c1 : Nat × va_E} (h : WX D S ad I A R G (X ++ [c1]) H) : FW D ((wl D S ad I A R G ++ X) ++ [c1]) H := by
  show va_P D.1 vCl ((wl D S ad I A R G ++ X) ++ [c1]) H
  rw [List.append_assoc]
  exact h
theorem flat_fa {c1 : Nat × va_E} (hw : wfS S) (h : AP S ad (X ++ [c1]) base) : FA ((wl D S ad I A R G ++ X) ++ [c1]) base := by
  rw [List.append_assoc]
  exact wx_D hw h
end FLT
abbrev par0 : List Value := [.null, .null, .null, .null, .int 0, .null, .null, .null, .null, .null, .int 0, .int 0]
def dP (q1 : Nat) : Par := (fun _ => 0, fun _ _ => 0, q1, 0, fun _ => 0)
theorem pN_at (D : dd_) (de b q0 q1 q2 q3 q4 q5 q6 q7 q8 : Nat) : ∀ i ∈ idxS pS, ∃ j e, (pCells D de b q0 q1 q2 q3 q4 q5 q6 q7 q8)[j]? = some (pNew b q0 q2 q3 q4 q5 q6 q7 q8 i, e) ∧ j = (if i = 99 then 0 else if i = 0 then 1 else if i ≤ 3 then i + 1 else i) := by
  intro i hi
  have h : i = 99 ∨ i = 0 ∨ i = 2 ∨ i = 3 ∨ i = 5 ∨ i = 6 ∨ i = 7 ∨ i = 8 ∨ i = 9 := by
    have : ∀ i ∈ idxS pS, i = 99 ∨ i = 0 ∨ i = 2 ∨ i = 3 ∨ i = 5 ∨ i = 6 ∨ i = 7 ∨ i = 8 ∨ i = 9 := by decide +kernel
    exact this i hi
  rcases h with rfl | rfl | rfl | rfl | rfl | rfl | rfl | rfl | rfl
  · exact ⟨0, _, rfl, rfl⟩
  · exact ⟨1, _, rfl, rfl⟩
  · exact ⟨3, _, rfl, rfl⟩
  · exact ⟨4, _, rfl, rfl⟩
  · exact ⟨5, _, rfl, rfl⟩
  · exact ⟨6, _, rfl, rfl⟩
  · exact ⟨7, _, rfl, rfl⟩
  · exact ⟨8, _, rfl, rfl⟩
  · exact ⟨9, _, rfl, rfl⟩
theorem pN_inj {D : dd_} {L : va_W} {base de b q0 q1 q2 q3 q4 q5 q6 q7 q8 : Nat} (h : FA (L ++ pCells D de b q0 q1 q2 q3 q4 q5 q6 q7 q8) base) : Inj pS (pNew b q0 q2 q3 q4 q5 q6 q7 q8) := by
  intro i hi j hj e
  obtain ⟨ki, ei, h1, h2⟩ := pN_at D de b q0 q1 q2 q3 q4 q5 q6 q7 q8 i hi
  obtain ⟨kj, ej, h3, h4⟩ := pN_at D de b q0 q1 q2 q3 q4 q5 q6 q7 q8 j hj
  have h5 := h.1 _ _ _ _ (fl_at h1) (fl_at h3) e
  have h6 : ∀ i ∈ idxS pS, ∀ j ∈ idxS pS, (if i = 99 then 0 else if i = 0 then 1 else if i ≤ 3 then i + 1 else i) = (if j = 99 then 0 else if j = 0 then 1 else if j ≤ 3 then j + 1 else j) → i = j := by decide +kernel
  exact h6 i hi j hj (by omega)
theorem pN_mem {D : dd_} {L X : va_W} {own : Nat → Nat} {k base de b q0 q1 q2 q3 q4 q5 q6 q7 q8 : Nat} (h : FA (L ++ pCells D de b q0 q1 q2 q3 q4 q5 q6 q7 q8) base) : ∀ q ∈ pw D (pNew b q0 q2 q3 q4 q5 q6 q7 q8) (dP q1), q ∈ Xt (ownN own (pCells D de b q0 q1 q2 q3 q4 q5 q6 q7 q8) (fun a => if a = q1 then 400 else k)) k (X ++ pCells D de b q0 q1 q2 q3 q4 q5 q6 q7 q8) := by
  intro q hq
  have hq : q ∈ ([0, 1, 3, 4, 5, 6, 7, 8, 9].filterMap (fun i => (pCells D de b q0 q1 q2 q3 q4 q5 q6 q7 q8)[i]?)) := hq
  obtain ⟨i, hi, hqi⟩ := List.mem_filterMap.mp hq
  refine new_in (List.mem_of_getElem? hqi) (if_neg (fun e => ?_))
  have h2 : (pCells D de b q0 q1 q2 q3 q4 q5 q6 q7 q8)[2]? = some (q1, .inr (13, [.int 0, .ref de, .int 0])) := rfl
  have h5 := h.1 _ _ _ _ (fl_at hqi) (fl_at h2) e
  have h6 : ∀ i ∈ [0, 1, 3, 4, 5, 6, 7, 8, 9], i ≠ 2 := by decide
  exact h6 i hi (by omega)
section MKP
variable {p : Program} {l : Launch} {e : Env} {R0 : Room} {s : State} {m : MethodId} {args : Array Value} {below : List Frame} {meth : Method} {c : Code} {H : Heap} {locs : List Loc} {cells slots : Nat} {Q : State → Prop}
variable {cc : ByteArray} {pc nL : Nat} {ls : Array Slot} {rest : List Value} {D : dd_} {s0 : State} {ad : Nat → Nat} {I : Nat → Int32} {A : Nat → Nat → Int32} {R : Nat → Option Nat} {G : Nat → Nat → Option Nat} {X : va_W} {base : Nat}
variable {own : Nat → Nat} {af : Nat → Nat → Nat} {ra : Nat → Nat × Nat} {ta : Nat × Nat} {Z : Dyn}
set_option maxHeartbeats 4000000 in
/-- new Parish() within PromisePounds -/
theorem mk_par {r1 r2 : Option Nat} {de : Nat} (k : Nat) (hx : p.tables.exec = Jvm.exec) (hb : c.code = cc) (hml : c.maxLocals = nL) (hown : s.vm.findClass RX0 = some m.cls) (hts : ∀ w ∈ lw_all, w.before args s = true) (hK : Kx D s) (hY : s0.WarmedH s.vm) (h0 : ∀ w ∈ lw_tbl, va_Nw w s0) (hz : FZ base s0 r1 r2 de) (hRf : 5 ≤ R0.frames) (hRl : 112 ≤ R0.locals) (hcc : cells + 10 ≤ R0.cells) (hss : slots + 71 ≤ R0.slots) (hq0 : ∀ q : Nat, q < base → s.heap[q]? = s0.heap[q]?) (hB0 : base ≤ s.heap.size) (hF : XF D own af ra ta Z R G X) (hAP : AP xS ad X base) (hW : WX D xS ad I A R G X H) (hS : va_S (upB base) s.heap H locs) (hls : ls.size = nL) (hr : (rest.map fun v => v.category).sum ≤ 7) (hd1 : decode cc pc = .ok (.new 36, 3)) (hd2 : decode cc (pc + 3) = .ok (.dup, 1)) (hd3 : decode cc (pc + 3 + 1) = .ok (.invokespecial 38, 3))
    (kk : ∀ (H1 : Heap) (locs1 : List Loc) (X1 : va_W) (own1 : Nat → Nat) (a1 : Nat → Nat) (q1 : Nat), XF D own1 af ra ta Z R G X1 → AP xS ad X1 base → WX D xS ad I A R G X1 H1 → va_S (upB base) s.heap H1 locs1 → Inj pS a1 → (∀ q ∈ pw D a1 (dP q1), q ∈ Xt own1 k X1) → RegX D (Xt own1 400 X1) q1 0 (fun _ => 0) → W p l e R0 s m args below meth c H1 locs1 (cells + 10) (slots + 71) Q (F0 m (pc + 3 + 1 + 3) ls (.ref (a1 99) :: rest))) : W p l e R0 s m args below meth c H locs cells slots Q (F0 m pc ls rest) := by
  refine x_new (ci := 2) (fs := par0) (C := RX1) (T := TX1) (N := 12) hx hb hts hown hK hAP hW hS (Nat.le_trans hB0 hS.1) in_X1 tyX1 tyX1_ok q119 q120 q77 rfl (fun j hj => by rcases (show j = 0 ∨ j = 1 ∨ j = 2 ∨ j = 3 ∨ j = 4 ∨ j = 5 ∨ j = 6 ∨ j = 7 ∨ j = 8 ∨ j = 9 ∨ j = 10 ∨ j = 11 by omega) with rfl | rfl | rfl | rfl | rfl | rfl | rfl | rfl | rfl | rfl | rfl | rfl <;> rfl) (by omega) (by omega) hd1 (fun H1 z1 hW1 hAP1 hS1 => ?_)
  refine lv_dup hx hb hd2 rfl ?_
  refine z_end (Post := fun H2 => ∃ q0 : Nat, ∃ q1 : Nat, ∃ q2 : Nat, ∃ q3 : Nat, ∃ q4 : Nat, ∃ q5 : Nat, ∃ q6 : Nat, ∃ q7 : Nat, ∃ q8 : Nat, FW D ((wl D xS ad I A R G ++ X) ++ pCells D de H.size q0 q1 q2 q3 q4 q5 q6 q7 q8) H2 ∧ FA ((wl D xS ad I A R G ++ X) ++ pCells D de H.size q0 q1 q2 q3 q4 q5 q6 q7 q8) base) (ov := none) (va_runIN (g := F0 m (pc + 3 + 1) ls _) (b := H.size) (As := []) (rest := .ref H.size :: rest) ⟨hx, hb, hml, hown, hts⟩ (f_X1_X1_met l D s0 h0 (wl D xS ad I A R G ++ X) base r1 r2 de hz H.size (flat_fa xwf hAP1)) ⟨va_cnB 0 hts (lw_meth q123) rfl rfl rfl (va_Nw.warmM hY (h0 _ q121)) (hts _ q77) (by decide +kernel) ⟨hRf, hRl⟩, rfl, hts _ q122⟩ ⟨PcZ_blind, pcz_at (Sc := nS) (adc := id) (Ic := fun _ => 0) (Ac := fun _ _ => 0) (Rc := nR) (Gc := nG) hY hK (Nat.le_trans hB0 hS1.1) (flat_fw hW1) (z_low hq0 hB0 hS1)⟩ rfl rfl hls rfl (lv_room (m := m) (pc := pc + 3 + 1) (ls := ls) (rest := []) (by rw [List.map_cons, List.sum_cons]; show 1 + _ ≤ 8; omega)) hd3 ⟨by omega, by omega⟩) hS1 (fun H2 locs2 hP _ hS2 => ?_)
  obtain ⟨q0, q1, q2, q3, q4, q5, q6, q7, q8, hW2, hA2⟩ := hP
  have hoff := hA2.off
  exact kk H2 locs2 (X ++ pCells D de H.size q0 q1 q2 q3 q4 q5 q6 q7 q8) (ownN own (pCells D de H.size q0 q1 q2 q3 q4 q5 q6 q7 q8) (fun a => if a = q1 then 400 else k)) (pNew H.size q0 q2 q3 q4 q5 q6 q7 q8) q1 (hF.grow (fun q hq => ownN_old (hoff q (List.mem_append_right _ hq))) (fun q hq => List.mem_append_left _ hq)) (flat_ap hAP.1 hA2) (flat_wx hW2) hS2 (pN_inj hA2) (pN_mem hA2) ⟨0, de, new_in (List.mem_of_getElem? (i := 2) rfl) (if_pos rfl), by decide, fun i hi => absurd hi (Nat.not_lt_zero i)⟩
end MKP
