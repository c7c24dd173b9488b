/-! FRAMEWORK 26: the trail: made, and handed to a person with the parish -/
set_option maxRecDepth 100000
section F26
variable {D : dd_} {ad : Nat → Nat} {I I1 : Nat → Int32} {A A1 : Nat → Nat → Int32} {R R1 : Nat → Option Nat} {G : Nat → Nat → Option Nat} {X : va_W} {base : Nat} {H : Heap}
variable {own : Nat → Nat} {af : Nat → Nat → Nat} {ra : Nat → Nat × Nat} {ta : Nat × Nat} {P : Nat → Option Par} {N : Nat → Option Rw_} {T : Int32 × (Nat → Int32)} {q5 : Nat × Nat × (Nat → Nat)} {Y : va_W}
theorem XF.trail {X1 : va_W} {ta1 : Nat × Nat} {T1 : Int32 × (Nat → Int32)} (h : XF D own af ra ta (P, N, T, q5, Y) R G X) (hX : ∀ q ∈ X, own q.1 ≠ 200 → q ∈ X1) (h1 : TrX D own ta1 T1 X1) (h2 : R1 109 = some ta1.1) (h3 : R1 201 = R 201) : XF D own af ra ta1 (P, N, T1, q5, Y) R1 G X1 := by
  obtain ⟨b1, b2, b3, b4, b5, b6, b7⟩ := h
  have m : ∀ t, t ≠ 200 → ∀ q ∈ Xt own t X, q ∈ Xt own t X1 := fun t ht => Xt_mono hX ht
  refine ⟨fun k hk => ?_, fun k hk => ?_, h1, h2, by rw [h3]; exact b5, b6.mono (m 400 (by omega)), fun q hq => m 300 (by omega) q (b7 q hq)⟩
  · refine ⟨(b1 k hk).1, fun B hB => ?_⟩
    obtain ⟨c1, c2, c3, c4⟩ := (b1 k hk).2 B hB
    exact ⟨c1, c2, fun q hq => m k (by omega) q (c3 q hq), c4.mono (m 400 (by omega))⟩
  · refine ⟨(b2 k hk).1, fun F hF => ?_⟩
    obtain ⟨c1, c2, c3, c4⟩ := (b2 k hk).2 F hF
    exact ⟨c1, c2, m _ (by omega) _ c3, m _ (by omega) _ c4⟩
def tad (ad : Nat → Nat) (ta : Nat × Nat) : Nat → Nat := fun i => if i = 199 then ta.1 else if i = 100 then ta.2 else ad i
def tI (I : Nat → Int32) (T : Int32 × (Nat → Int32)) : Nat → Int32 := fun i => if i = 101 then T.1 else I i
def tA (A : Nat → Nat → Int32) (T : Int32 × (Nat → Int32)) : Nat → Nat → Int32 := fun i => if i = 100 then T.2 else A i
def mgt {α : Type} (f g : Nat → α) : Nat → α := fun i => if 200 ≤ i then (if i < 300 then g i else f i) else f i
abbrev tC (D : dd_) (ta : Nat × Nat) (T : Int32 × (Nat → Int32)) : va_W := [(ta.1, .inr (3, [.ref ta.2, .int T.1])), (ta.2, .inl (D.2 .int, 16, .inl T.2))]
theorem t_sub : ∀ q ∈ wl D tS (tad ad ta) (tI I T) (tA A T) R nG, q ∈ wl D xS ad I A R G ++ tC D ta T := sub_mem [26, 1, 27, 7, 8, 9, 10, 11, 12, 13, 14] rfl
theorem t_sub2 : ∀ q ∈ wl D xS ad (mgt I I1) (mgt A A1) R G, q ∈ wl D tS (tad ad ta) I1 A1 R nG ++ wl D xS200 ad I A R G := sub_mem [11, 1, 12, 13, 14, 15, 16, 3, 4, 5, 6, 7, 8, 9, 10, 17, 18, 19, 20, 21, 22, 23, 24, 25, 26, 27] rfl
theorem t_sub3 : ∀ q ∈ wl D xS200 ad I A R G, q ∈ wl D xS ad I A R G := sub_mem [0, 2, 3, 4, 5, 6, 15, 16, 17, 18, 19, 20, 21, 22, 23, 24, 25] rfl
theorem t_sub4 : ∀ q ∈ tC D ta (I1 101, A1 100), q ∈ wl D tS (tad ad ta) I1 A1 R nG := sub_mem [0, 2] rfl
theorem t_in (hF : XF D own af ra ta (P, N, T, q5, Y) R G X) : ∀ q ∈ wl D tS (tad ad ta) (tI I T) (tA A T) R nG, q ∈ wl D xS ad I A R G ++ X := by
  intro q hq
  rcases List.mem_append.mp (t_sub (I := I) (A := A) (R := R) (G := G) q hq) with h | h
  · exact List.mem_append_left _ h
  · refine List.mem_append_right _ ?_
    rcases List.mem_cons.mp h with h | h
    · rw [h]; exact (Xt_mem.mp hF.2.2.1.1).1
    · rw [List.mem_singleton.mp h]; exact (Xt_mem.mp hF.2.2.1.2).1
theorem tr_ne (hF : XF D own af ra ta (P, N, T, q5, Y) R G X) (hAP : AP xS ad X base) {q : Nat × va_E} (hq : q ∈ X) (ho : own q.1 ≠ 200) : ∀ i ∈ idxS tS, q.1 ≠ tad ad ta i := by
  intro i hi e
  unfold tad at e
  by_cases h1 : i = 199
  · rw [if_pos h1] at e
    exact ho (by rw [e]; exact (Xt_mem.mp hF.2.2.1.1).2)
  · rw [if_neg h1] at e
    by_cases h2 : i = 100
    · rw [if_pos h2] at e
      exact ho (by rw [e]; exact (Xt_mem.mp hF.2.2.1.2).2)
    · rw [if_neg h2] at e
      exact hAP.2.1 i ((by decide +kernel : ∀ i ∈ idxS tS, i ≠ 199 → i ≠ 100 → i ∈ idxS xS) i hi h1 h2) q hq e
theorem tr_ne2 (hF : XF D own af ra ta (P, N, T, q5, Y) R G X) (hAP : AP xS ad X base) {q : Nat × va_E} (hq : q ∈ wl D xS200 ad I A R G) : ∀ i ∈ idxS tS, q.1 ≠ tad ad ta i := by
  intro i hi e
  obtain ⟨k, hk⟩ := List.getElem?_of_mem hq
  obtain ⟨j, hj, ej⟩ := wl_at hk
  have hj2 := List.mem_of_getElem? hj
  have hjx : j ∈ idxS xS := (by decide +kernel : ∀ i ∈ idxS xS200, i ∈ idxS xS) j hj2
  rw [ej] at e
  unfold tad at e
  by_cases h1 : i = 199
  · rw [if_pos h1] at e
    exact hAP.2.1 j hjx _ (Xt_mem.mp hF.2.2.1.1).1 e.symm
  · rw [if_neg h1] at e
    by_cases h2 : i = 100
    · rw [if_pos h2] at e
      exact hAP.2.1 j hjx _ (Xt_mem.mp hF.2.2.1.2).1 e.symm
    · rw [if_neg h2] at e
      have e2 := hAP.1 j hjx i ((by decide +kernel : ∀ i ∈ idxS tS, i ≠ 199 → i ≠ 100 → i ∈ idxS xS) i hi h1 h2) e
      subst e2
      exact (by decide +kernel : ∀ i ∈ idxS tS, i ≠ 199 → i ≠ 100 → i ∉ idxS xS200) j hi h1 h2 hj2
theorem t_inj (hF : XF D own af ra ta (P, N, T, q5, Y) R G X) (hAP : AP xS ad X base) : Inj tS (tad ad ta) := by
  have m1 := (Xt_mem.mp hF.2.2.1.1).1
  have m2 := (Xt_mem.mp hF.2.2.1.2).1
  have hd : ta.1 ≠ ta.2 := fun e => by
    have := va_D.uniq hAP.2.2.1 m1 m2 e
    injection this with _ z
    cases z
  intro i hi j hj e
  unfold tad at e
  have hx : ∀ i ∈ idxS tS, i ≠ 199 → i ≠ 100 → i ∈ idxS xS := by decide +kernel
  by_cases h1 : i = 199
  · rw [if_pos h1] at e
    by_cases h3 : j = 199
    · rw [h1, h3]
    · rw [if_neg h3] at e
      by_cases h4 : j = 100
      · rw [if_pos h4] at e; exact absurd e hd
      · rw [if_neg h4] at e; exact absurd e (hAP.2.1 j (hx j hj h3 h4) _ m1)
  · rw [if_neg h1] at e
    by_cases h2 : i = 100
    · rw [if_pos h2] at e
      by_cases h3 : j = 199
      · rw [if_pos h3] at e; exact absurd e.symm hd
      · rw [if_neg h3] at e
        by_cases h4 : j = 100
        · rw [h2, h4]
        · rw [if_neg h4] at e; exact absurd e (hAP.2.1 j (hx j hj h3 h4) _ m2)
    · rw [if_neg h2] at e
      by_cases h3 : j = 199
      · rw [if_pos h3] at e; exact absurd e.symm (hAP.2.1 i (hx i hi h1 h2) _ m1)
      · rw [if_neg h3] at e
        by_cases h4 : j = 100
        · rw [if_pos h4] at e; exact absurd e.symm (hAP.2.1 i (hx i hi h1 h2) _ m2)
        · rw [if_neg h4] at e
          exact hAP.1 i (hx i hi h1 h2) j (hx j hj h3 h4) e
theorem wl_tR {ad : Nat → Nat} (h : R1 201 = R 201) : wl D tS ad I A R1 nG = wl D tS ad I A R nG := by
  show wl D tS ad I A (fun _ => R1 201) nG = wl D tS ad I A (fun _ => R 201) nG
  rw [h]
theorem wx_tR {ad : Nat → Nat} (h : R1 201 = R 201) (hW : WX D tS ad I A R1 nG X H) : WX D tS ad I A R nG X H := by
  have hW : va_P D.1 vCl (wl D tS ad I A R1 nG ++ X) H := hW
  rw [wl_tR h] at hW
  exact hW
abbrev tX (D : dd_) (ad : Nat → Nat) (ta : Nat × Nat) (I : Nat → Int32) (A : Nat → Nat → Int32) (R : Nat → Option Nat) (G : Nat → Nat → Option Nat) (X : va_W) : va_W := fx tS (tad ad ta) (wl D xS ad I A R G ++ X)
theorem t_go (hF : XF D own af ra ta (P, N, T, q5, Y) R G X) (hAP : AP xS ad X base) (hW : WX D xS ad I A R G X H) : AP tS (tad ad ta) (tX D ad ta I A R G X) base ∧ WX D tS (tad ad ta) (tI I T) (tA A T) R nG (tX D ad ta I A R G X) H :=
  refocus (t_inj hF hAP) (wx_D (D := D) (I := I) (A := A) (R := R) (G := G) xwf hAP) hW (t_in hF)
theorem t_reg (hF : XF D own af ra ta (P, N, T, q5, Y) R G X) (hAP : AP xS ad X base) : RegX D (tX D ad ta I A R G X) q5.1 q5.2.1 q5.2.2 :=
  hF.2.2.2.2.2.1.mono (fun q hq => fx_mem.mpr ⟨List.mem_append_right _ (Xt_mem.mp hq).1, tr_ne hF hAP (Xt_mem.mp hq).1 (by rw [(Xt_mem.mp hq).2]; decide)⟩)
theorem wl_ci {S : sp_} {b ci : Nat} {fs : List Value} (h : (b, Sum.inr (ci, fs)) ∈ wl D S ad I A R G) : ∃ o ∈ S.1, o.2.1 = ci := by
  unfold wl at h
  rcases List.mem_append.mp h with h | h
  · obtain ⟨o, ho, e⟩ := List.mem_map.mp h
    injection e with _ e
    injection e with e
    injection e with e _
    exact ⟨o, ho, e⟩
  · rcases List.mem_append.mp h with h | h
    · obtain ⟨o, ho, e⟩ := List.mem_map.mp h
      injection e with _ e
      cases e
    · obtain ⟨o, ho, e⟩ := List.mem_map.mp h
      injection e with _ e
      cases e
theorem t_per (hF : XF D own af ra ta (P, N, T, q5, Y) R G X) (hAP : AP xS ad X base) {b kd : Nat} {fs : List Value} (hm : (b, Sum.inr (7 + kd, fs)) ∈ X) (h1 : 1 ≤ kd) : (b, Sum.inr (7 + kd, fs)) ∈ tX D ad ta I A R G X :=
  fx_in (wx_D (D := D) (I := I) (A := A) (R := R) (G := G) xwf hAP) (t_in hF) (List.mem_append_right _ hm) (fun h => by
    obtain ⟨o, ho, e⟩ := wl_ci h
    have h2 : ∀ o ∈ tS.1, o.2.1 ≤ 3 := by decide +kernel
    have := h2 o ho
    omega)
theorem t_back {H1 : Heap} (hF : XF D own af ra ta (P, N, T, q5, Y) R G X) (hAP : AP xS ad X base) (hW : WX D xS ad I A R G X H) (hW1 : WX D tS (tad ad ta) I1 A1 R nG (tX D ad ta I A R G X) H1) : ∃ X1, XF D own af ra ta (P, N, (I1 101, A1 100), q5, Y) R G X1 ∧ AP xS ad X1 base ∧ WX D xS ad (mgt I I1) (mgt A A1) R G X1 H1 := by
  have hAt := (t_go hF hAP hW).1
  have hA1 : FA (wl D tS (tad ad ta) I1 A1 R nG ++ tX D ad ta I A R G X) base := wx_D (D := D) (I := I1) (A := A1) (R := R) (G := nG) twf hAt
  have hm : ∀ q ∈ wl D xS ad (mgt I I1) (mgt A A1) R G, q ∈ wl D tS (tad ad ta) I1 A1 R nG ++ tX D ad ta I A R G X := by
    intro q hq
    rcases List.mem_append.mp (t_sub2 (I := I) (A := A) (ta := ta) q hq) with h | h
    · exact List.mem_append_left _ h
    · exact List.mem_append_right _ (fx_mem.mpr ⟨List.mem_append_left _ (t_sub3 q h), tr_ne2 hF hAP h⟩)
  obtain ⟨hAP1, hW2⟩ := refocus hAP.1 hA1 hW1 hm
  refine ⟨_, ?_, hAP1, hW2⟩
  refine hF.trail (fun q hq ho => fx_mem.mpr ⟨List.mem_append_right _ (fx_mem.mpr ⟨List.mem_append_right _ hq, tr_ne hF hAP hq ho⟩), fun i hi => hAP.2.1 i hi q hq⟩) ⟨?_, ?_⟩ hF.2.2.2.1 rfl
  · exact Xt_mem.mpr ⟨fx_mem.mpr ⟨List.mem_append_left _ (t_sub4 _ List.mem_cons_self), fun i hi e => hAP.2.1 i hi _ (Xt_mem.mp hF.2.2.1.1).1 e⟩, (Xt_mem.mp hF.2.2.1.1).2⟩
  · exact Xt_mem.mpr ⟨fx_mem.mpr ⟨List.mem_append_left _ (t_sub4 _ (List.mem_cons_of_mem _ List.mem_cons_self)), fun i hi e => hAP.2.1 i hi _ (Xt_mem.mp hF.2.2.1.2).1 e⟩, (Xt_mem.mp hF.2.2.1.2).2⟩
end F26
section M26
variable {p : Program} {l : Launch} {e : Env} {R0 : Room} {s : State} {m : MethodId} {args : Array Value} {below : List Frame} {meth : Method} {c : Code} {H : Heap} {locs : List Loc} {cells slots : Nat} {Q : State → Prop}
variable {cc : ByteArray} {pc nL : Nat} {ls : Array Slot} {rest st0 : List Value} {D : dd_} {s0 : State} {ad : Nat → Nat} {I : Nat → Int32} {A : Nat → Nat → Int32} {R : Nat → Option Nat} {G : Nat → Nat → Option Nat} {X : va_W} {base : Nat}
variable {own : Nat → Nat} {af : Nat → Nat → Nat} {ra : Nat → Nat × Nat} {ta : Nat × Nat} {P : Nat → Option Par} {N : Nat → Option Rw_} {T : Int32 × (Nat → Int32)} {q5 : Nat × Nat × (Nat → Nat)} {Y : va_W}
set_option maxHeartbeats 4000000 in
/-- trail = new Trail() -/
theorem mk_trail {r1 r2 : Option Nat} {de : Nat} (hx : p.tables.exec = Jvm.exec) (hb : c.code = cc) (hml : c.maxLocals = nL) (hown : s.vm.findClass RX0 = some m.cls) (hts : ∀ w ∈ lw_all, w.before args s = true) (hK : Kx D s) (hY : s0.WarmedH s.vm) (h0 : ∀ w ∈ lw_tbl, va_Nw w s0) (hz : FZ base s0 r1 r2 de) (hRf : 2 ≤ R0.frames) (hRl : 52 ≤ R0.locals) (hcc : cells + 2 ≤ R0.cells) (hss : slots + 18 ≤ R0.slots) (hq0 : ∀ q : Nat, q < base → s.heap[q]? = s0.heap[q]?) (hB0 : base ≤ s.heap.size) (hF : XF D own af ra ta (P, N, T, q5, Y) R G X) (hAP : AP xS ad X base) (hW : WX D xS ad I A R G X H) (hS : va_S (upB base) s.heap H locs) (hls : ls.size = nL) (hr : (rest.map fun v => v.category).sum ≤ 6) (hd1 : decode cc pc = .ok (.new 53, 3)) (hd2 : decode cc (pc + 3) = .ok (.dup, 1)) (hd5 : decode cc (pc + 3 + 1) = .ok (.invokespecial 55, 3)) (hd6 : decode cc (pc + 3 + 1 + 3) = .ok (.putfield 56, 3))
    (kk : ∀ (H1 : Heap) (locs1 : List Loc) (X1 : va_W) (own1 : Nat → Nat) (ta1 : Nat × Nat), XF D own1 af ra ta1 (P, N, (0, fun _ => 0), q5, Y) (va_up R 109 (some ta1.1)) G X1 → AP xS ad X1 base → WX D xS ad I A (va_up R 109 (some ta1.1)) G X1 H1 → va_S (upB base) s.heap H1 locs1 → W p l e R0 s m args below meth c H1 locs1 (cells + 1 + 1) (slots + 2 + 16) Q (F0 m (pc + 3 + 1 + 3 + 3) ls rest)) : W p l e R0 s m args below meth c H locs cells slots Q (F0 m pc ls (.ref (ad 199) :: rest)) := by
  refine x_new (ci := 3) (fs := [.null, .int 0]) (C := RX2) (T := TX2) (N := 2) hx hb hts hown hK hAP hW hS (Nat.le_trans hB0 hS.1) in_X2 tyX2 tyX2_ok q209 q210 q81 rfl (fun j hj => by rcases (show j = 0 ∨ j = 1 by omega) with rfl | rfl <;> rfl) (by omega) (by omega) hd1 (fun H1 z1 hW1 hAP1 hS1 => ?_)
  refine lv_dup hx hb hd2 rfl ?_
  refine z_end (Post := fun H2 => ∃ q0 : Nat, FW D ((wl D xS ad I A R G ++ X) ++ [(H.size, .inr (3, [.ref q0, .int 0])), (q0, .inl (D.2 .int, 16, .inl (fun _ => 0)))]) H2 ∧ FA ((wl D xS ad I A R G ++ X) ++ [(H.size, .inr (3, [.ref q0, .int 0])), (q0, .inl (D.2 .int, 16, .inl (fun _ => 0)))]) base) (ov := none) (va_runIN (g := F0 m (pc + 3 + 1) ls _) (b := H.size) (As := []) (rest := .ref H.size :: .ref (ad 199) :: rest) ⟨hx, hb, hml, hown, hts⟩ (f_X2_X2_met l D s0 h0 (wl D xS ad I A R G ++ X) base r1 r2 de hz H.size (flat_fa xwf hAP1)) ⟨va_cnB 0 hts (lw_meth q213) rfl rfl rfl (va_Nw.warmM hY (h0 _ q211)) (hts _ q81) (by decide +kernel) (by exact ⟨hRf, hRl⟩), rfl, hts _ q212⟩ ⟨PcZ_blind, pcz_at (Sc := nS) (adc := id) (Ic := fun _ => 0) (Ac := fun _ _ => 0) (Rc := nR) (Gc := nG) hY hK (Nat.le_trans hB0 hS1.1) (flat_fw hW1) (z_low hq0 hB0 hS1)⟩ rfl rfl hls rfl (lv_room (m := m) (pc := pc + 3 + 1) (ls := ls) (rest := []) (by rw [List.map_cons, List.sum_cons, List.map_cons, List.sum_cons]; show 1 + (1 + _) ≤ 8; omega)) hd5 ⟨by (try dsimp only); omega, by (try dsimp only); omega⟩) hS1 (fun H2 locs2 hP _ hS2 => ?_)
  obtain ⟨q0, hW2, hA2⟩ := hP
  have hoff := hA2.off
  have hF2 := hF.grow (own' := ownN own [(H.size, .inr (3, [.ref q0, .int 0])), (q0, .inl (D.2 .int, 16, .inl (fun _ => 0)))] (fun _ => 200)) (X1 := X ++ [(H.size, .inr (3, [.ref q0, .int 0])), (q0, .inl (D.2 .int, 16, .inl (fun _ => 0)))]) (fun q hq => ownN_old (hoff q (List.mem_append_right _ hq))) (fun q hq => List.mem_append_left _ hq)
  have hAP2 := flat_ap hAP.1 hA2
  refine x_putR (x := some H.size) (o := "PromisePounds$Trail") hx hb hts hown hK xwf hAP2 (flat_wx hW2) hS2 xO199 in_X0 tyX0 tyX0_ok nmX0 rfl 9 109 (by decide) rfl q233 rfl rfl (by decide +kernel) hd6 (fun H3 locs3 hW3 hS3 => ?_)
  exact kk H3 locs3 _ _ (H.size, q0) (hF2.trail (fun q hq _ => hq) ⟨new_in List.mem_cons_self rfl, new_in (List.mem_cons_of_mem _ List.mem_cons_self) rfl⟩ (va_up_self _ _ _) (va_up_ne _ _ (by decide))) hAP2 hW3 hS3
end M26
