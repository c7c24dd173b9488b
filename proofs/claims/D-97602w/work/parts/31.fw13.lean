/-! FRAMEWORK 13: become between the parish and a slot -/
set_option maxRecDepth 100000
theorem wl_key {D : dd_} {S : sp_} {ad : Nat → Nat} {I : Nat → Int32} {A : Nat → Nat → Int32} {R : Nat → Option Nat} {G : Nat → Nat → Option Nat} {i : Nat} (hi : i ∈ idxS S) : ∃ q ∈ wl D S ad I A R G, q.1 = ad i := by
  obtain ⟨k, hk⟩ := List.getElem?_of_mem hi
  have h1 : ((wl D S ad I A R G).map (·.1))[k]? = some (ad i) := by rw [wl_fst, List.getElem?_map, hk]; rfl
  rw [List.getElem?_map] at h1
  cases h2 : (wl D S ad I A R G)[k]? with
  | none => rw [h2] at h1; cases h1
  | some q => rw [h2] at h1; exact ⟨q, List.mem_of_getElem? h2, Option.some.inj h1⟩
theorem wl_mem_key {D : dd_} {S : sp_} {ad : Nat → Nat} {I : Nat → Int32} {A : Nat → Nat → Int32} {R : Nat → Option Nat} {G : Nat → Nat → Option Nat} {q : Nat × va_E} (h : q ∈ wl D S ad I A R G) : ∃ i ∈ idxS S, q.1 = ad i := by
  obtain ⟨k, hk⟩ := List.getElem?_of_mem h
  obtain ⟨i, hi, e⟩ := wl_at hk
  exact ⟨i, List.mem_of_getElem? hi, e⟩
theorem pm200 {D : dd_} {ad : Nat → Nat} {I : Nat → Int32} {A : Nat → Nat → Int32} {R : Nat → Option Nat} {G : Nat → Nat → Option Nat} : ∀ q ∈ wl D pS (sh 200 ad) (sh 200 I) (sh 200 A) (sh 200 R) nG, q ∈ wl D xS ad I A R G := sub_mem [1, 7, 8, 9, 10, 11, 12, 13, 14] rfl
theorem idx200 : ∀ i ∈ idxS pS, 200 + i ∈ idxS xS := by decide +kernel
section SB
variable {p : Program} {l : Launch} {e : Env} {R0 : Room} {s : State} {m : MethodId} {args : Array Value} {below : List Frame} {meth : Method} {c : Code} {H : Heap} {locs : List Loc} {cells slots : Nat} {Q : State → Prop}
variable {cc : ByteArray} {pc nL : Nat} {ls : Array Slot} {rest : List Value} {D : dd_} {s0 : State} {ad : Nat → Nat} {I : Nat → Int32} {A : Nat → Nat → Int32} {R : Nat → Option Nat} {G : Nat → Nat → Option Nat} {X : va_W} {base : Nat} {H0 : Heap}
variable {own : Nat → Nat} {af : Nat → Nat → Nat} {ra : Nat → Nat × Nat} {ta : Nat × Nat} {Z : Dyn}
set_option maxHeartbeats 4000000 in
/-- a slot becomes the parish -/
theorem slot_bec {k : Nat} {P : Par} (hx : p.tables.exec = Jvm.exec) (hb : c.code = cc) (hml : c.maxLocals = nL) (hown : s.vm.findClass RX0 = some m.cls) (hts : ∀ w ∈ lw_all, w.before args s = true) (hK : Kx D s) (hY : s0.WarmedH s.vm) (h0 : ∀ w ∈ lw_tbl, va_Nw w s0) (hRf : 2 ≤ R0.frames) (hRl : 85 ≤ R0.locals) (hcs : cells ≤ R0.cells ∧ slots ≤ R0.slots) (hB : base ≤ H.size) (hF : XF D own af ra ta Z R G X) (hAP : AP xS ad X base) (hW : WX D xS ad I A R G X H) (hS : va_S (upB base) H0 H locs) (hk : k < 26) (hP : Z.1 k = some P) (hls : ls.size = nL) (hr : (rest.map fun v => v.category).sum ≤ 8) (hdg : decode cc pc = .ok (.invokevirtual 159, 3))
    (kk : ∀ (H1 : Heap) (locs1 : List Loc) (X1 : va_W), XF D own af ra ta (va_up Z.1 k (some (becI P.1 (sh 200 I), becA P.2.1 (sh 200 A), Z.2.2.2.1)), Z.2) R G X1 → AP xS ad X1 base → WX D xS ad I A R G X1 H1 → va_S (upB base) H0 H1 locs1 → W p l e R0 s m args below meth c H1 locs1 cells slots Q (F0 m (pc + 3) ls (.ref (af k 99) :: rest))) : W p l e R0 s m args below meth c H locs cells slots Q (F0 m pc ls (.ref (ad 299) :: .ref (af k 99) :: rest)) := by
  obtain ⟨c1, c2, c3, c4⟩ := (hF.1 k hk).2 P hP
  have hA := wx_D (D := D) (I := I) (A := A) (R := R) (G := G) xwf hAP
  have key : ∀ i ∈ idxS pS, own (af k i) = k ∧ ∀ j ∈ idxS xS, af k i ≠ ad j := by
    intro i hi
    obtain ⟨q, hq, e⟩ := wl_key (D := D) (S := pS) (ad := af k) (I := P.1) (A := P.2.1) (R := fun _ => some P.2.2.1) (G := nG) hi
    obtain ⟨q1, q2⟩ := Xt_mem.mp (c3 q hq)
    rw [← e]
    exact ⟨q2, fun j hj => hAP.2.1 j hj q q1⟩
  refine bec_call (aT := af k) (aO := sh 200 ad) (IT := P.1) (IO := sh 200 I) (AT := P.2.1) (AO := sh 200 A) (RT := fun _ => some P.2.2.1) (RO := sh 200 R) hx hb hml hown hts hK hY h0 hRf hRl hcs hB hA hW hS c2 (fun i hi j hj z => ?_) (fun i hi j hj => (key i hi).2 _ (idx200 j hj)) (fun q hq => List.mem_append_right _ (Xt_mem.mp (c3 q hq)).1) (fun q hq => List.mem_append_left _ (pm200 q hq)) hls hr hdg (fun H1 locs1 hAP1 hW1 hS1 => ?_)
  · have := hAP.1 _ (idx200 i hi) _ (idx200 j hj) z
    omega
  · have hA1 := wx_D (D := D) (I := becI P.1 (sh 200 I)) (A := becA P.2.1 (sh 200 A)) (R := va_up (fun _ => some P.2.2.1) 1 (sh 200 R 1)) (G := nG) pwf hAP1
    have hm : ∀ q ∈ wl D xS ad I A R G, q ∈ wl D pS (af k) (becI P.1 (sh 200 I)) (becA P.2.1 (sh 200 A)) (va_up (fun _ => some P.2.2.1) 1 (sh 200 R 1)) nG ++ fx pS (af k) (wl D xS ad I A R G ++ X) := fun q hq => by
      obtain ⟨j, hj, e⟩ := wl_mem_key hq
      exact List.mem_append_right _ (fx_mem.mpr ⟨List.mem_append_left _ hq, fun i hi z => (key i hi).2 j hj (z.symm.trans e)⟩)
    obtain ⟨g1, g2⟩ := refocus hAP.1 hA1 hW1 hm
    have e201 : sh 200 R 1 = some Z.2.2.2.1.1 := hF.2.2.2.2.1
    refine kk H1 locs1 _ (hF.slot hk hP (fun q hq ho => ?_) (fun q hq => ?_) hF.2.2.2.2.2.1) g1 g2 hS1
    · exact fx_mem.mpr ⟨List.mem_append_right _ (fx_mem.mpr ⟨List.mem_append_right _ hq, fun i hi z => ho (by rw [z]; exact (key i hi).1)⟩), fun j hj => hAP.2.1 j hj q hq⟩
    · have hq2 : q ∈ wl D pS (af k) (becI P.1 (sh 200 I)) (becA P.2.1 (sh 200 A)) (va_up (fun _ => some P.2.2.1) 1 (sh 200 R 1)) nG := by
        rw [e201]
        exact hq
      obtain ⟨i, hi, e⟩ := wl_mem_key hq2
      exact fx_mem.mpr ⟨List.mem_append_left _ hq2, fun j hj z => (key i hi).2 j hj (by rw [← e]; exact z)⟩
set_option maxHeartbeats 4000000 in
/-- the parish becomes a slot's -/
theorem par_bec {k : Nat} {P : Par} (hx : p.tables.exec = Jvm.exec) (hb : c.code = cc) (hml : c.maxLocals = nL) (hown : s.vm.findClass RX0 = some m.cls) (hts : ∀ w ∈ lw_all, w.before args s = true) (hK : Kx D s) (hY : s0.WarmedH s.vm) (h0 : ∀ w ∈ lw_tbl, va_Nw w s0) (hRf : 2 ≤ R0.frames) (hRl : 85 ≤ R0.locals) (hcs : cells ≤ R0.cells ∧ slots ≤ R0.slots) (hB : base ≤ H.size) (hF : XF D own af ra ta Z R G X) (hAP : AP xS ad X base) (hW : WX D xS ad I A R G X H) (hS : va_S (upB base) H0 H locs) (hk : k < 26) (hP : Z.1 k = some P) (hls : ls.size = nL) (hr : (rest.map fun v => v.category).sum ≤ 8) (hdg : decode cc pc = .ok (.invokevirtual 159, 3))
    (kk : ∀ (H1 : Heap) (locs1 : List Loc), XF D own af ra ta (Z.1, Z.2.1, Z.2.2.1, P.2.2, Z.2.2.2.2) (mg 200 R (va_up (sh 200 R) 1 (some P.2.2.1))) G X → WX D xS ad (mg 200 I (becI (sh 200 I) P.1)) (mg 200 A (becA (sh 200 A) P.2.1)) (mg 200 R (va_up (sh 200 R) 1 (some P.2.2.1))) G X H1 → va_S (upB base) H0 H1 locs1 → W p l e R0 s m args below meth c H1 locs1 cells slots Q (F0 m (pc + 3) ls (.ref (ad 299) :: rest))) : W p l e R0 s m args below meth c H locs cells slots Q (F0 m pc ls (.ref (af k 99) :: .ref (ad 299) :: rest)) := by
  obtain ⟨c1, c2, c3, c4⟩ := (hF.1 k hk).2 P hP
  have hA := wx_D (D := D) (I := I) (A := A) (R := R) (G := G) xwf hAP
  have key : ∀ i ∈ idxS pS, ∀ j ∈ idxS xS, ad j ≠ af k i := by
    intro i hi j hj z
    obtain ⟨q, hq, e⟩ := wl_key (D := D) (S := pS) (ad := af k) (I := P.1) (A := P.2.1) (R := fun _ => some P.2.2.1) (G := nG) hi
    exact hAP.2.1 j hj q (Xt_mem.mp (c3 q hq)).1 (by rw [e, z])
  refine bec_call (aT := sh 200 ad) (aO := af k) (IT := sh 200 I) (IO := P.1) (AT := sh 200 A) (AO := P.2.1) (RT := sh 200 R) (RO := fun _ => some P.2.2.1) hx hb hml hown hts hK hY h0 hRf hRl hcs hB hA hW hS (fun i hi j hj z => ?_) c2 (fun i hi j hj => key j hj _ (idx200 i hi)) (fun q hq => List.mem_append_left _ (pm200 q hq)) (fun q hq => List.mem_append_right _ (Xt_mem.mp (c3 q hq)).1) hls hr hdg (fun H1 locs1 hAP1 hW1 hS1 => ?_)
  · have := hAP.1 _ (idx200 i hi) _ (idx200 j hj) z
    omega
  · refine kk H1 locs1 ⟨hF.1, hF.2.1, hF.2.2.1, hF.2.2.2.1, rfl, c4, hF.2.2.2.2.2.2⟩ (xu200 rfl rfl rfl (vaP_mem hW1 (fun q hq => ?_))) hS1
    rcases List.mem_append.mp hq with h | h
    · exact List.mem_append_left _ h
    · refine List.mem_append_right _ (fx_mem.mpr ?_)
      rcases List.mem_append.mp h with h | h
      · refine ⟨List.mem_append_left _ (sub_mem [0, 2, 3, 4, 5, 6, 15, 16, 17, 18, 19, 20, 21, 22, 23, 24, 25] rfl q h), fun i hi z => ?_⟩
        obtain ⟨j, hj, e⟩ := wl_mem_key h
        have h1 : ∀ j ∈ idxS xS200, j ∈ idxS xS ∧ (j < 200 ∨ 300 ≤ j) := by decide +kernel
        have h2 := hAP.1 j (h1 j hj).1 _ (idx200 i hi) (by rw [← e]; exact z)
        have h3 := idx1 i hi
        have h4 := (h1 j hj).2
        omega
      · exact ⟨List.mem_append_right _ h, fun i hi => hAP.2.1 _ (idx200 i hi) q h⟩
end SB
