/-! FRAMEWORK 20: findings caught; rows -/
set_option maxRecDepth 100000
theorem slN_n {k N : Nat} {i : Int32} (h : slN 0 N i = some k) : i = nI k ∧ k < N := by
  obtain ⟨h1, h2⟩ := slN_e h
  have h3 := slN_lt h
  refine ⟨?_, by omega⟩
  have h4 : ¬ i < 0 := fun z => h1 (Or.inl z)
  obtain ⟨j, hj, rfl⟩ := nI_of h4
  rw [nI_clamp hj] at h2
  rw [show j = k by omega]
theorem AP.set {S : sp_} {ad : Nat → Nat} {X : va_W} {base p a : Nat} {e e' : va_E} (h : AP S ad X base) (hp : X[p]? = some (a, e)) : AP S ad (X.set p (a, e')) base := by
  refine ⟨h.1, fun i hi q hq => ?_, va_D.set h.2.2.1 hp, h.2.2.2⟩
  rcases List.mem_or_eq_of_mem_set hq with z | z
  · exact h.2.1 i hi q z
  · have h2 := h.2.1 i hi (a, e) (List.mem_of_getElem? hp)
    rw [z]
    exact h2
section R20
variable {p : Program} {l : Launch} {e : Env} {R0 : Room} {s : State} {m : MethodId} {args : Array Value} {below : List Frame} {meth : Method} {c : Code} {H : Heap} {locs : List Loc} {cells slots : Nat} {Q : State → Prop}
variable {cc : ByteArray} {pc nL : Nat} {ls : Array Slot} {rest st0 : List Value} {D : dd_} {s0 : State} {ad : Nat → Nat} {I : Nat → Int32} {A : Nat → Nat → Int32} {R : Nat → Option Nat} {G : Nat → Nat → Option Nat} {X : va_W} {base : Nat}
variable {own : Nat → Nat} {af : Nat → Nat → Nat} {ra : Nat → Nat × Nat} {ta : Nat × Nat} {P : Nat → Option Par} {N : Nat → Option Rw_} {T : Int32 × (Nat → Int32)} {q5 : Nat × Nat × (Nat → Nat)} {Y : va_W}
theorem x_alenD (hexec : p.tables.exec = Jvm.exec) (hb : c.code = cc) (hK : Kx D s) (hW : WX D xS ad I A R G X H) {b n : Nat} {f : Nat → Int32} (hq : (b, Sum.inl (D.2 .int, n, Sum.inl f)) ∈ X) (hdg : decode cc pc = .ok (.arraylength, 1))
    (kk : W p l e R0 s m args below meth c H locs cells slots Q (F0 m (pc + 1) ls (.int (nI n) :: rest))) : W p l e R0 s m args below meth c H locs cells slots Q (F0 m pc ls (.ref b :: rest)) := by
  obtain ⟨q0, h0⟩ := List.getElem?_of_mem (List.mem_append_right (wl D xS ad I A R G) hq)
  obtain ⟨t0, ht⟩ := Kx.at (D := D) (U := s) (ty := .int) (by decide)
  exact va_alen hexec hb hK hW q0 t0 h0 ht rfl hdg kk
theorem x_ialdD (hexec : p.tables.exec = Jvm.exec) (hb : c.code = cc) (hK : Kx D s) (hW : WX D xS ad I A R G X H) {b n : Nat} {f : Nat → Int32} (hq : (b, Sum.inl (D.2 .int, n, Sum.inl f)) ∈ X) {j v : Int32} (hv : ldO f n j = some v) (hdg : decode cc pc = .ok (.iaload, 1))
    (kk : W p l e R0 s m args below meth c H locs cells slots Q (F0 m (pc + 1) ls (.int v :: rest))) : W p l e R0 s m args below meth c H locs cells slots Q (F0 m pc ls (.int j :: .ref b :: rest)) := by
  obtain ⟨hin, hv⟩ := ldO_e hv
  subst hv
  obtain ⟨q0, h0⟩ := List.getElem?_of_mem (List.mem_append_right (wl D xS ad I A R G) hq)
  obtain ⟨t0, ht⟩ := Kx.at (D := D) (U := s) (ty := .int) (by decide)
  exact va_iald hexec hb hK hW q0 t0 h0 ht hin hdg kk
/-- rows: what lies in one is changed, or one is put or dropped -/
theorem XF.rowPut {j : Nat} {r : Option Rw_} {rr : Nat × Nat} {G1 : Nat → Nat → Option Nat} {X1 : va_W} (h : XF D own af ra ta (P, N, T, q5, Y) R G X) (hX : ∀ q ∈ X, own q.1 ≠ 100 + j → q ∈ X1) (hj : j < 8) (hg : ∀ k, k < 8 → G1 100 k = if k = j then r.map (fun _ => rr.1) else G 100 k) (h6 : G1 106 = G 106) (h8 : G1 108 = G 108) (hr : ∀ F, r = some F → F.2.1 ≤ 40 ∧ (rr.1, Sum.inr (5, [.int F.1, .ref rr.2])) ∈ Xt own (100 + j) X1 ∧ (rr.2, Sum.inl (D.2 .int, F.2.1, Sum.inl F.2.2)) ∈ Xt own (100 + j) X1) : XF D own af (va_up ra j rr) ta (P, va_up N j r, T, q5, Y) R G1 X1 := by
  obtain ⟨b1, b2, b3, b4, b5, b6, b7⟩ := h
  have hg0 : ∀ k, gs G1 k = gs G k := fun k => by unfold gs; rw [h6, h8]
  have m : ∀ t, t ≠ 100 + j → ∀ q ∈ Xt own t X, q ∈ Xt own t X1 := fun t ht => Xt_mono hX ht
  refine ⟨fun k hk => ?_, fun k hk => ?_, ⟨m 200 (by omega) _ b3.1, m 200 (by omega) _ b3.2⟩, b4, b5, b6.mono (m 400 (by omega)), fun q hq => m 300 (by omega) q (b7 q hq)⟩
  · rw [hg0 k]
    refine ⟨(b1 k hk).1, fun B hB => ?_⟩
    obtain ⟨c1, c2, c3, c4⟩ := (b1 k hk).2 B hB
    exact ⟨c1, c2, fun q hq => m k (by omega) q (c3 q hq), c4.mono (m 400 (by omega))⟩
  · rw [hg k hk]
    by_cases ek : k = j
    · subst ek
      have e1 : (P, va_up N k r, T, q5, Y).2.1 k = r := va_up_self _ _ _
      have e2 : va_up ra k rr k = rr := va_up_self _ _ _
      rw [e1, e2, if_pos rfl]
      refine ⟨fun z => by rw [z]; rfl, fun F hF => ?_⟩
      obtain ⟨d1, d2, d3⟩ := hr F hF
      exact ⟨by rw [hF]; rfl, d1, d2, d3⟩
    · have e1 : (P, va_up N j r, T, q5, Y).2.1 k = N k := va_up_ne _ _ ek
      have e2 : va_up ra j rr k = ra k := va_up_ne _ _ ek
      rw [e1, e2, if_neg ek]
      refine ⟨(b2 k hk).1, fun F hF => ?_⟩
      obtain ⟨c1, c2, c3, c4⟩ := (b2 k hk).2 F hF
      exact ⟨c1, c2, m _ (by omega) _ c3, m _ (by omega) _ c4⟩
theorem row_in {j : Nat} {F : Rw_} (hF : XF D own af ra ta (P, N, T, q5, Y) R G X) (hj : j < 8) (hN : N j = some F) : G 100 j = some (ra j).1 ∧ F.2.1 ≤ 40 ∧ ((ra j).1, Sum.inr (5, [.int F.1, .ref (ra j).2])) ∈ X ∧ ((ra j).2, Sum.inl (D.2 .int, F.2.1, Sum.inl F.2.2)) ∈ X := by
  obtain ⟨c1, c2, c3, c4⟩ := (hF.2.1 j hj).2 F hN
  exact ⟨c1, c2, (Xt_mem.mp c3).1, (Xt_mem.mp c4).1⟩
theorem row_iast {j : Nat} {F : Rw_} (hexec : p.tables.exec = Jvm.exec) (hb : c.code = cc) (hK : Kx D s) (hF : XF D own af ra ta (P, N, T, q5, Y) R G X) (hAP : AP xS ad X base) (hW : WX D xS ad I A R G X H) (hS : va_S (upB base) s.heap H locs) (hj : j < 8) (hN : N j = some F) {i x : Int32} {f : Nat → Int32} (hv : stO F.2.2 F.2.1 i x = some f) (hdg : decode cc pc = .ok (.iastore, 1))
    (kk : ∀ (H1 : Heap) (locs1 : List Loc) (X1 : va_W), XF D own af ra ta (P, va_up N j (some (F.1, F.2.1, f)), T, q5, Y) R G X1 → AP xS ad X1 base → WX D xS ad I A R G X1 H1 → va_S (upB base) s.heap H1 locs1 → W p l e R0 s m args below meth c H1 locs1 cells slots Q (F0 m (pc + 1) ls rest)) : W p l e R0 s m args below meth c H locs cells slots Q (F0 m pc ls (.int x :: .int i :: .ref (ra j).2 :: rest)) := by
  obtain ⟨c1, c2, c3, c4⟩ := (hF.2.1 j hj).2 F hN
  obtain ⟨hin, rfl⟩ := stO_e hv
  obtain ⟨p0, hp0⟩ := List.getElem?_of_mem (Xt_mem.mp c4).1
  obtain ⟨t0, ht⟩ := Kx.at (D := D) (U := s) (ty := .int) (by decide)
  have hD := wx_D (D := D) (I := I) (A := A) (R := R) (G := G) xwf hAP
  refine va_iast hexec hb hK hW hD hS _ t0 (fl_at hp0) ht hin hdg (fun H1 locs1 hP _ hS1 => ?_)
  rw [fl_set] at hP
  refine kk H1 locs1 _ ?_ (hAP.set hp0) hP hS1
  have hF2 := hF.rowPut (j := j) (r := some (F.1, F.2.1, upd F.2.2 i.toNatClampNeg x)) (rr := ra j) (G1 := G) (X1 := X.set p0 ((ra j).2, .inl (D.2 .int, F.2.1, .inl (upd F.2.2 i.toNatClampNeg x)))) (fun q hq ho => set_mem hp0 hq (fun z => ho (by rw [z]; exact (Xt_mem.mp c4).2))) hj (fun k hk => by
    by_cases ek : k = j
    · subst ek
      rw [if_pos rfl, c1]
      rfl
    · rw [if_neg ek]) rfl rfl (fun F2 h2 => by
    cases h2
    refine ⟨c2, Xt_mem.mpr ⟨set_mem hp0 (Xt_mem.mp c3).1 (fun z => by injection z with _ z2; cases z2), (Xt_mem.mp c3).2⟩, Xt_mem.mpr ⟨set_mem0 hp0, (Xt_mem.mp c4).2⟩⟩)
  have er : va_up ra j (ra j) = ra := by
    funext k
    by_cases ek : k = j <;> simp [va_up, ek]
  rw [er] at hF2
  exact hF2
set_option maxHeartbeats 4000000 in
/-- a finding that a call throws is caught here -/
theorem fi_caught {Z : Dyn} {k : Int32} {hs : List (Nat × Nat × Nat × Nat)} {a b hpc : Nat} (j : Nat) {av : Array Value} (htab : tabE c = hs) (hj : hs[j]? = some (a, b, hpc, 71)) (hpre : ∀ z ∈ hs.take j, (decide (z.1 ≤ pc) && decide (pc < z.2.1)) = false) (hin : (decide (a ≤ pc) && decide (pc < b)) = true) (hown : s.vm.findClass RX0 = some m.cls) (hts : ∀ w ∈ lw_all, w.before args s = true) (hK : Kx D s) (hS : va_S (upB base) s.heap H locs) (hF : XF D own af ra ta Z R G X) (hr : RunT p l e R0 s m args below meth c H locs cells slots 1 7 (F0 m pc ls st0) rest (QtE (FiT D xS ad I A R G X base k) base av) (upB base))
    (kk : ∀ (x : Nat) (R1 : Nat → Option Nat) (H1 : Heap) (locs1 : List Loc) (X1 : va_W) (own1 : Nat → Nat), XF D own1 af ra ta Z R G X1 → AP xS ad X1 base → WX D xS ad I A R G X1 H1 → va_S (upB base) s.heap H1 locs1 → (x, Sum.inr (4, fiF R1 k)) ∈ X1 → W p l e R0 s m args below meth c H1 locs1 (cells + 1) (slots + 7) Q (F0 m hpc ls [.ref x])) : W p l e R0 s m args below meth c H locs cells slots Q (F0 m pc ls st0) := by
  obtain ⟨pre, rs, x0, h1, h2, h3, h4, h5, h6, h7⟩ := tab_at htab j hj
  refine z_caught (D := D) (C' := RX4) (T := TX4) (N := 7) (ci := 4) hown (hts _ q280) pre rs x0 h1 (fun y hy => ?_) (by show (decide (x0.startPc ≤ pc) && decide (pc < x0.endPc)) = true; rw [h3, h4]; exact hin) h6 (by decide) h5 hK hS hr rfl (fun x H1 h => ?_) (fun x H1 locs1 hP hz hS1 => ?_)
  · exact hpre (y.startPc, y.endPc, y.handlerPc, y.catchType) (by rw [← h7]; exact List.mem_map.mpr ⟨y, hy, rfl⟩)
  · obtain ⟨R1, hW1, -⟩ := h
    have hmem : (x, Sum.inr (4, fiF R1 k)) ∈ wl D xS ad I A R G ++ (X ++ [(x, Sum.inr (4, fiF R1 k))]) := List.mem_append_right _ (List.mem_append_right _ (List.mem_singleton.mpr rfl))
    obtain ⟨i, hi⟩ := List.getElem?_of_mem hmem
    exact ⟨fiF R1 k, hW1 i _ hi⟩
  · obtain ⟨R1, hW1, hAP1⟩ := hP
    have hoff := FA.off hAP1.2.2.1
    exact kk x R1 H1 locs1 (X ++ [(x, .inr (4, fiF R1 k))]) (ownN own [(x, .inr (4, fiF R1 k))] (fun _ => 500)) (hF.grow (fun q hq => ownN_old (hoff q hq)) (fun q hq => List.mem_append_left _ hq)) hAP1 hW1 hS1 (List.mem_append_right _ (List.mem_singleton.mpr rfl))
end R20
set_option maxHeartbeats 4000000 in
/-- must: it returns -/
theorem must_ret (l : Launch) (D : dd_) (s0 : State) (ad : Nat → Nat) (base : Nat) (v k : Int32) (hv : ¬ v = 0) : Met l yX0_must (ws_ yX0_must cX0_must 2 none) ({ frames := 1, cells := 0, slots := 0, locals := 32 }) (PcX D s0 nS ad (fun _ => 0) (fun _ _ => 0) nR nG [] base [.int v, .int k]) (QcR none) 0 0 (fun _ => False) := by
  refine Met.ofW (cc := cX0_must) (maxL := 2) (ret := none) (by decide) rfl ?_
  intro p e s m args below meth c s₁ B hml hv2
  obtain ⟨rfl, hK, hY, hB, hW⟩ := hv2
  have hx := B.exec
  have hb := B.bytes
  have hr := B.returns
  have hlocks := B.notSynchronized
  have hl := lv_entry ([.int v, .int k]) (n := 2) (Nat.le_of_ble_eq_true rfl)
  rw [lg_entry_eq]
  generalize (lg_sl ([.int v, .int k]) ++ List.replicate (2 - (lg_sl ([.int v, .int k])).length) Slot.unset).toArray = ls at hl ⊢
  have hl : lv_has ls 2 [(0, .int v), (1, .int k)] := hl
  refine lv_iload_n hx hb dX0_must_0 rfl (lv_at hl 0 rfl) ?_
  refine lv_if_ne (tgt := 13) hx hb dX0_must_1 (by decide) (fun _ => ?_) (fun c1 => absurd c1 hv)
  exact W.vret hx hb hr (fun t ht _ => ⟨rfl, ht⟩) (fun q hq => by cases hq) dX0_must_13
theorem must_ds : yX0_must.cls = RX0 ∧ yX0_must.cls ≠ "java/lang/invoke/MethodHandle" ∧ yX0_must.cls ≠ "java/lang/invoke/VarHandle" ∧ (parseMethodDescriptor yX0_must.desc).map (fun d => d.parameters.length) = some 2 := by decide +kernel
def lenO (i : Int32) : Option Nat := if i < 0 ∨ 40 < i then none else some i.toNatClampNeg
theorem lenO_e {i : Int32} {k : Nat} (h : lenO i = some k) : i = nI k ∧ k ≤ 40 := by
  unfold lenO at h
  by_cases c : i < 0 ∨ 40 < i
  · rw [if_pos c] at h; cases h
  · rw [if_neg c] at h
    obtain ⟨j, h1, rfl⟩ := nI_of (x := i) (fun z => c (Or.inl z))
    have h2 : j ≤ 40 := Nat.not_lt.mp fun z => c (Or.inr (nI_lt (a := 40) z h1))
    rw [nI_clamp h1] at h
    exact ⟨by rw [Option.some.inj h], by rw [← Option.some.inj h]; exact h2⟩
section R21
variable {p : Program} {l : Launch} {e : Env} {R0 : Room} {s : State} {m : MethodId} {args : Array Value} {below : List Frame} {meth : Method} {c : Code} {H : Heap} {locs : List Loc} {cells slots : Nat} {Q : State → Prop}
variable {cc : ByteArray} {pc nL : Nat} {ls : Array Slot} {rest st0 : List Value} {D : dd_} {s0 : State} {ad : Nat → Nat} {I : Nat → Int32} {A : Nat → Nat → Int32} {R : Nat → Option Nat} {G : Nat → Nat → Option Nat} {X : va_W} {base : Nat}
variable {own : Nat → Nat} {af : Nat → Nat → Nat} {ra : Nat → Nat × Nat} {ta : Nat × Nat} {P : Nat → Option Par} {N : Nat → Option Rw_} {T : Int32 × (Nat → Int32)} {q5 : Nat × Nat × (Nat → Nat)} {Y : va_W} {Z : Dyn}
/-- a nest mate's field of a further cell -/
theorem x_getND (hexec : p.tables.exec = Jvm.exec) (hb : c.code = cc) (hts : ∀ w ∈ lw_all, w.before args s = true) {on host : String} (hown : s.vm.findClass on = some m.cls) (hK : Kx D s) (hY : s0.WarmedH s.vm) (h0 : ∀ w ∈ lw_tbl, va_Nw w s0) (hW : WX D xS ad I A R G X H) {ref C : String} {T : u_T} {N ci index b : Nat} {fs : List Value} (hq : (b, Sum.inr (ci, fs)) ∈ X) (hin : ∀ w ∈ u_ws C T N, w ∈ lw_all) (hc : vCl[ci]? = some (C, T, N)) (k : Nat) (hk : k < N) (hlink : Cond.fieldLinkNest on index ref (T k).2.1 (T k).2.2.1 host ∈ lw_tbl) (hsame : (∀ x, s.fieldFound? (T k).1 (T k).2.1 (T k).2.2.1 = some x → s.fieldFound? ref (T k).2.1 (T k).2.2.1 = some x)) {v : Value} (hv : fs[k]? = some v) (hdg : decode cc pc = .ok (.getfield index, 3))
    (kk : W p l e R0 s m args below meth c H locs cells slots Q (F0 m (pc + 3) ls (v :: rest))) : W p l e R0 s m args below meth c H locs cells slots Q (F0 m pc ls (.ref b :: rest)) := by
  obtain ⟨q0, z0⟩ := List.getElem?_of_mem (List.mem_append_right (wl D xS ad I A R G) hq)
  exact va_getN hexec hb hts hin hown hK hW q0 z0 hc k hk (va_Nw.use rfl (va_Nw.warmF hY (h0 _ hlink))) hsame hv hdg kk
set_option maxHeartbeats 4000000 in
/-- new Row(lane, n) within row -/
theorem mk_row {r1 r2 : Option Nat} {de n : Nat} {la ln : Int32} (j : Nat) (hx : p.tables.exec = Jvm.exec) (hb : c.code = cc) (hml : c.maxLocals = nL) (hown : s.vm.findClass RX0 = some m.cls) (hts : ∀ w ∈ lw_all, w.before args s = true) (hK : Kx D s) (hY : s0.WarmedH s.vm) (h0 : ∀ w ∈ lw_tbl, va_Nw w s0) (hz : FZ base s0 r1 r2 de) (hRf : 2 ≤ R0.frames) (hRl : 54 ≤ R0.locals) (hcc : cells + 2 ≤ R0.cells) (hss : slots + 42 ≤ R0.slots) (hq0 : ∀ q : Nat, q < base → s.heap[q]? = s0.heap[q]?) (hB0 : base ≤ s.heap.size) (hF : XF D own af ra ta Z R G X) (hAP : AP xS ad X base) (hW : WX D xS ad I A R G X H) (hS : va_S (upB base) s.heap H locs) (hln : ln = nI n) (hn : n ≤ 40) (hls : ls.size = nL) (h2 : ls[2]? = some (.val (.int la))) (h3 : ls[3]? = some (.val (.int ln))) (hr : (rest.map fun v => v.category).sum ≤ 7) (hd1 : decode cc pc = .ok (.new 26, 3)) (hd2 : decode cc (pc + 3) = .ok (.dup, 1)) (hd3 : decode cc (pc + 3 + 1) = .ok (.iload_n 2, 1)) (hd4 : decode cc (pc + 3 + 1 + 1) = .ok (.iload_n 3, 1)) (hd5 : decode cc (pc + 3 + 1 + 1 + 1) = .ok (.invokespecial 98, 3))
    (kk : ∀ (H1 : Heap) (locs1 : List Loc) (X1 : va_W) (own1 : Nat → Nat) (b q0 : Nat), XF D own1 af ra ta Z R G X1 → AP xS ad X1 base → WX D xS ad I A R G X1 H1 → va_S (upB base) s.heap H1 locs1 → (b, Sum.inr (5, [.int la, .ref q0])) ∈ Xt own1 (100 + j) X1 → (q0, Sum.inl (D.2 .int, n, Sum.inl (fun _ => 0))) ∈ Xt own1 (100 + j) X1 → W p l e R0 s m args below meth c H1 locs1 (cells + 1 + 1) (slots + 2 + (0 + n)) Q (F0 m (pc + 3 + 1 + 1 + 1 + 3) ls (.ref b :: rest))) : W p l e R0 s m args below meth c H locs cells slots Q (F0 m pc ls rest) := by
  refine x_new (ci := 5) (fs := [.int 0, .null]) (C := RX5) (T := TX5) (N := 2) hx hb hts hown hK hAP hW hS (Nat.le_trans hB0 hS.1) in_X5 tyX5 tyX5_ok q117 q358 q86 rfl (fun j hj => by rcases (show j = 0 ∨ j = 1 by omega) with rfl | rfl <;> rfl) (by omega) (by omega) hd1 (fun H1 z1 hW1 hAP1 hS1 => ?_)
  refine lv_dup hx hb hd2 rfl ?_
  refine lv_iload_n hx hb hd3 rfl h2 ?_
  refine lv_iload_n hx hb hd4 rfl h3 ?_
  subst hln
  refine z_end (Post := fun H2 => ∃ q0 : Nat, FW D ((wl D xS ad I A R G ++ X) ++ [(H.size, .inr (5, [.int la, .ref q0])), (q0, .inl (D.2 .int, n, .inl (fun _ => 0)))]) H2 ∧ FA ((wl D xS ad I A R G ++ X) ++ [(H.size, .inr (5, [.int la, .ref q0])), (q0, .inl (D.2 .int, n, .inl (fun _ => 0)))]) base) (ov := none) (va_runI (g := F0 m (pc + 3 + 1 + 1 + 1) ls _) (b := H.size) (As := [.int la, .int (nI n)]) (rest := .ref H.size :: rest) ⟨hx, hb, hml, hown, hts⟩ (f_X5_X5_met l D s0 h0 (wl D xS ad I A R G ++ X) base r1 r2 de hz H.size la n hn (flat_fa xwf hAP1)) (cwI 2 hts (lw_meth q361) rfl rfl rfl (hts _ q86) (hts _ q359) (hts _ q360) rfl (by decide +kernel) (by exact ⟨hRf, hRl⟩)) ⟨PcZ_blind, pcz_at (Sc := nS) (adc := id) (Ic := fun _ => 0) (Ac := fun _ _ => 0) (Rc := nR) (Gc := nG) hY hK (Nat.le_trans hB0 hS1.1) (flat_fw hW1) (z_low hq0 hB0 hS1)⟩ rfl rfl hls rfl (lv_room (m := m) (pc := pc + 3 + 1 + 1 + 1) (ls := ls) (rest := []) (by rw [List.map_cons, List.sum_cons]; show 1 + _ ≤ 8; omega)) hd5 ⟨by (try dsimp only); omega, by (try dsimp only); omega⟩) hS1 (fun H2 locs2 hP _ hS2 => ?_)
  obtain ⟨q0, hW2, hA2⟩ := hP
  have hoff := hA2.off
  exact kk H2 locs2 (X ++ [(H.size, .inr (5, [.int la, .ref q0])), (q0, .inl (D.2 .int, n, .inl (fun _ => 0)))]) (ownN own [(H.size, .inr (5, [.int la, .ref q0])), (q0, .inl (D.2 .int, n, .inl (fun _ => 0)))] (fun _ => 100 + j)) H.size q0 (hF.grow (fun q hq => ownN_old (hoff q (List.mem_append_right _ hq))) (fun q hq => List.mem_append_left _ hq)) (flat_ap hAP.1 hA2) (flat_wx hW2) hS2 (new_in List.mem_cons_self rfl) (new_in (List.mem_cons_of_mem _ List.mem_cons_self) rfl)
end R21
