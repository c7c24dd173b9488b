/-! keep: the parish is laid behind the others -/
set_option maxRecDepth 100000
/-- what lies in the slots behind a keep at place a -/
def kpS (sp : Nat → Option Par) (a : Nat) (I : Nat → Int32) (A : Nat → Nat → Int32) (q : Nat × Nat × (Nat → Nat)) : Nat → Option Par := va_up sp a (some (becI ((sp a).getD (dP 0)).1 (sh 200 I), becA ((sp a).getD (dP 0)).2.1 (sh 200 A), q))
theorem sh_upd {I : Nat → Int32} {k j : Nat} {x : Int32} (h : k < j) : sh j (upd I k x) = sh j I := by
  funext i
  unfold sh upd
  rw [if_neg (by omega)]
theorem sl_in {D : dd_} {own : Nat → Nat} {af : Nat → Nat → Nat} {ra : Nat → Nat × Nat} {ta : Nat × Nat} {Z : Dyn} {R : Nat → Option Nat} {G : Nat → Nat → Option Nat} {X : va_W} {k : Nat} {P : Par} (h : XF D own af ra ta Z R G X) (hk : k < 26) (hP : Z.1 k = some P) : gs G k = some (af k 99) ∧ ∃ vs, (af k 99, Sum.inr (2, vs)) ∈ X := by
  obtain ⟨c1, c2, c3, c4⟩ := (h.1 k hk).2 P hP
  exact ⟨c1, _, (Xt_mem.mp (c3 _ (List.mem_append_left _ List.mem_cons_self))).1⟩
theorem gs_p {G : Nat → Nat → Option Nat} {k : Nat} (h : k < 24) : gs G k = G 106 k := if_pos h
theorem gs_i {G : Nat → Nat → Option Nat} {k : Nat} : gs G (24 + k) = G 108 k := by unfold gs; rw [if_neg (by omega), Nat.add_sub_cancel_left]
set_option maxRecDepth 100000 in
set_option maxHeartbeats 4000000 in
theorem keep_90 {p : Program} {l : Launch} {e : Env} {R0 : Room} {s : State} {m : MethodId} {args : Array Value} {below : List Frame} {meth : Method} {c : Code} {H : Heap} {locs : List Loc} {cells slots : Nat} {Q : State → Prop} {ls : Array Slot} {D : dd_} {s0 : State} {ad : Nat → Nat} {I : Nat → Int32} {A : Nat → Nat → Int32} {R : Nat → Option Nat} {G : Nat → Nat → Option Nat} {X : va_W} {base : Nat} {own : Nat → Nat} {af : Nat → Nat → Nat} {ra : Nat → Nat × Nat} {ta : Nat × Nat} {Z : Dyn} (hx : p.tables.exec = Jvm.exec) (hb : c.code = cX0_keep) (hml : c.maxLocals = 3) (hown : s.vm.findClass RX0 = some m.cls) (hts : ∀ w ∈ lw_all, w.before args s = true) (hK : Kx D s) (hY : s0.WarmedH s.vm) (h0 : ∀ w ∈ lw_tbl, va_Nw w s0) (hRf : 2 ≤ R0.frames) (hRl : 85 ≤ R0.locals) (hB0 : base ≤ s.heap.size) (hcs : cells ≤ R0.cells ∧ slots ≤ R0.slots) (hF : XF D own af ra ta Z R G X) (hAP : AP xS ad X base) (hW : WX D xS ad I A R G X H) (hS : va_S (upB base) s.heap H locs) {a : Nat} (ha : I 107 = nI a) (ha24 : a < 24) {P : Par} (hP : Z.1 a = some P) (hl : lv_has ls 3 [(0, .ref (ad 199))]) (kk : ∀ (H1 : Heap) (locs1 : List Loc) (ls1 : Array Slot), HX D ad (upd I 107 (I 107 + 1)) A R (va_up Z.1 a (some (becI P.1 (sh 200 I), becA P.2.1 (sh 200 A), Z.2.2.2.1)), Z.2) base H1 → va_S (upB base) s.heap H1 locs1 → W p l e R0 s m args below meth c H1 locs1 cells slots Q (F0 m 117 ls1 [])) : W p l e R0 s m args below meth c H locs cells slots Q (F0 m 90 ls []) := by
  have hg := (sl_in hF (by omega) hP).1
  refine lv_aload_n hx hb dX0_keep_90 rfl (lv_at hl 0 rfl) ?_
  refine x_get (v := .ref (ad 106)) hx hb hts hown hK hW xO199 in_X0 rfl 6 (by decide) q230 rfl rfl dX0_keep_91 ?_
  refine lv_aload_n hx hb dX0_keep_94 rfl (lv_at hl 0 rfl) ?_
  refine x_get (v := .int (I 107)) hx hb hts hown hK hW xO199 in_X0 rfl 7 (by decide) q231 rfl rfl dX0_keep_95 ?_
  refine x_aald (v := some (af a 99)) hx hb hK hW (by decide) xG106 (show aldO (G 106) 24 (I 107) = some (some (af a 99)) by rw [ha, ald_nI ha24 (by decide), ← gs_p (G := G) ha24, hg]) dX0_keep_98 ?_
  refine lv_aload_n hx hb dX0_keep_99 rfl (lv_at hl 0 rfl) ?_
  refine x_get (v := .ref (ad 299)) hx hb hts hown hK hW xO199 in_X0 rfl 4 (by decide) q228 rfl rfl dX0_keep_100 ?_
  refine slot_bec (k := a) hx hb hml hown hts hK hY h0 (Nat.le_trans (Nat.le_of_ble_eq_true rfl) hRf) (Nat.le_trans (Nat.le_of_ble_eq_true rfl) hRl) hcs (Nat.le_trans hB0 hS.1) hF hAP hW hS (by omega) hP hl.1 (Nat.le_of_ble_eq_true rfl) dX0_keep_103 (fun H locs X hF hAP hW hS => ?_)
  refine lv_pop hx hb dX0_keep_106 rfl ?_
  refine lv_aload_n hx hb dX0_keep_107 rfl (lv_at hl 0 rfl) ?_
  refine lv_dup hx hb dX0_keep_108 rfl ?_
  refine x_get (v := .int (I 107)) hx hb hts hown hK hW xO199 in_X0 rfl 7 (by decide) q231 rfl rfl dX0_keep_109 ?_
  refine lv_iconst (v := 1) hx hb dX0_keep_112 (by decide) ?_
  refine lv_iadd hx hb dX0_keep_113 ?_
  refine x_putI hx hb hts hown hK xwf hAP hW hS xO199 in_X0 tyX0 tyX0_ok nmX0 rfl 7 107 (by decide) rfl q231 rfl rfl (by decide +kernel) dX0_keep_114 (fun H locs hW hS => ?_)
  exact kk _ _ ls ⟨_, _, _, _, _, _, hF, hAP, hW⟩ hS
set_option maxRecDepth 100000 in
set_option maxHeartbeats 4000000 in
theorem keep_62 {p : Program} {l : Launch} {e : Env} {R0 : Room} {s : State} {m : MethodId} {args : Array Value} {below : List Frame} {meth : Method} {c : Code} {H : Heap} {locs : List Loc} {cells slots : Nat} {Q : State → Prop} {ls : Array Slot} {D : dd_} {s0 : State} {ad : Nat → Nat} {I : Nat → Int32} {A : Nat → Nat → Int32} {R : Nat → Option Nat} {G : Nat → Nat → Option Nat} {X : va_W} {base : Nat} {own : Nat → Nat} {af : Nat → Nat → Nat} {ra : Nat → Nat × Nat} {ta : Nat × Nat} {Z : Dyn} (hx : p.tables.exec = Jvm.exec) (hb : c.code = cX0_keep) (hml : c.maxLocals = 3) (hown : s.vm.findClass RX0 = some m.cls) (hts : ∀ w ∈ lw_all, w.before args s = true) (hK : Kx D s) (hY : s0.WarmedH s.vm) (h0 : ∀ w ∈ lw_tbl, va_Nw w s0) (hRf : 5 ≤ R0.frames) (hRl : 112 ≤ R0.locals) (hB0 : base ≤ s.heap.size) {r1 r2 : Option Nat} {de : Nat} (hz : FZ base s0 r1 r2 de) (hq0 : ∀ q : Nat, q < base → s.heap[q]? = s0.heap[q]?) (hcc : cells + 10 ≤ R0.cells) (hss : slots + 71 ≤ R0.slots) (hF : XF D own af ra ta Z R G X) (hAP : AP xS ad X base) (hW : WX D xS ad I A R G X H) (hS : va_S (upB base) s.heap H locs) {a : Nat} (ha : I 107 = nI a) (ha24 : a < 24) (hl : lv_has ls 3 [(0, .ref (ad 199))]) (kk : ∀ (H1 : Heap) (locs1 : List Loc) (ls1 : Array Slot), HX D ad (upd I 107 (I 107 + 1)) A R (kpS Z.1 a I A Z.2.2.2.1, Z.2) base H1 → va_S (upB base) s.heap H1 locs1 → W p l e R0 s m args below meth c H1 locs1 (cells + 10) (slots + 71) Q (F0 m 117 ls1 [])) : W p l e R0 s m args below meth c H locs cells slots Q (F0 m 62 ls []) := by
  have hcs : cells + 10 ≤ R0.cells ∧ slots + 71 ≤ R0.slots := ⟨hcc, hss⟩
  cases hP : Z.1 a with
  | none =>
    refine lv_aload_n hx hb dX0_keep_62 rfl (lv_at hl 0 rfl) ?_
    refine x_get (v := .ref (ad 106)) hx hb hts hown hK hW xO199 in_X0 rfl 6 (by decide) q230 rfl rfl dX0_keep_63 ?_
    refine lv_aload_n hx hb dX0_keep_66 rfl (lv_at hl 0 rfl) ?_
    refine x_get (v := .int (I 107)) hx hb hts hown hK hW xO199 in_X0 rfl 7 (by decide) q231 rfl rfl dX0_keep_67 ?_
    refine x_aald (v := none) hx hb hK hW (by decide) xG106 (show aldO (G 106) 24 (I 107) = some none by rw [ha, ald_nI ha24 (by decide), ← gs_p (G := G) ha24, (hF.1 a (by omega)).1 hP]) dX0_keep_70 ?_
    refine x_ifnn (tgt := 90) hx hb dX0_keep_71 (by decide) (fun cx => absurd rfl cx) (fun _ => ?_)
    refine lv_aload_n hx hb dX0_keep_74 rfl (lv_at hl 0 rfl) ?_
    refine x_get (v := .ref (ad 106)) hx hb hts hown hK hW xO199 in_X0 rfl 6 (by decide) q230 rfl rfl dX0_keep_75 ?_
    refine lv_aload_n hx hb dX0_keep_78 rfl (lv_at hl 0 rfl) ?_
    refine x_get (v := .int (I 107)) hx hb hts hown hK hW xO199 in_X0 rfl 7 (by decide) q231 rfl rfl dX0_keep_79 ?_
    refine mk_par a hx hb hml hown hts hK hY h0 hz hRf hRl hcc hss hq0 hB0 hF hAP hW hS hl.1 (Nat.le_of_ble_eq_true rfl) dX0_keep_82 dX0_keep_85 dX0_keep_86 (fun H locs X own a1 q1 hF hAP hW hS hin hc hreg => ?_)
    refine x_aastP hx hb hK xwf hAP hW hS (by decide) xG106 (ci := 2) rfl (Xt_mem.mp (hc _ (List.mem_append_left _ List.mem_cons_self))).1 (j := I 107) (by rw [ha]; exact vp_in_nI ha24 (by decide)) dX0_keep_89 (fun H locs hW hS => ?_)
    have hF := hF.put (k := a) (a1 := a1) (P := dP q1) (G1 := va_up G 106 (va_up (G 106) (I 107).toNatClampNeg (some (a1 99)))) (fun j hj => by
      rw [ha, nI_clamp (by omega)]
      by_cases e : j = a
      · subst e
        rw [gs_p ha24, va_up_self, va_up_self, if_pos rfl]
      · rw [if_neg e]
        unfold gs
        by_cases h2 : j < 24
        · rw [if_pos h2, if_pos h2, va_up_self, va_up_ne _ _ e]
        · rw [if_neg h2, if_neg h2, va_up_ne _ _ (by decide)]) (va_up_ne _ _ (by decide)) hin hc hreg
    refine keep_90 hx hb hml hown hts hK hY h0 (Nat.le_trans (by decide) hRf) (Nat.le_trans (by decide) hRl) hB0 hcs hF hAP hW hS ha ha24 (P := dP q1) (va_up_self _ _ _) hl (fun H1 locs1 ls1 hH hS1 => kk H1 locs1 ls1 ?_ hS1)
    have hH : HX D ad (upd I 107 (I 107 + 1)) A R (va_up (va_up Z.1 a (some (dP q1))) a (some (becI (dP q1).1 (sh 200 I), becA (dP q1).2.1 (sh 200 A), Z.2.2.2.1)), Z.2) base H1 := hH
    rw [bx_uu] at hH
    unfold kpS
    rw [hP]
    exact hH
  | some P =>
    have hg := (sl_in hF (by omega) hP).1
    refine lv_aload_n hx hb dX0_keep_62 rfl (lv_at hl 0 rfl) ?_
    refine x_get (v := .ref (ad 106)) hx hb hts hown hK hW xO199 in_X0 rfl 6 (by decide) q230 rfl rfl dX0_keep_63 ?_
    refine lv_aload_n hx hb dX0_keep_66 rfl (lv_at hl 0 rfl) ?_
    refine x_get (v := .int (I 107)) hx hb hts hown hK hW xO199 in_X0 rfl 7 (by decide) q231 rfl rfl dX0_keep_67 ?_
    refine x_aald (v := some (af a 99)) hx hb hK hW (by decide) xG106 (show aldO (G 106) 24 (I 107) = some (some (af a 99)) by rw [ha, ald_nI ha24 (by decide), ← gs_p (G := G) ha24, hg]) dX0_keep_70 ?_
    refine x_ifnn (tgt := 90) hx hb dX0_keep_71 (by decide) (fun _ => ?_) (fun cx => absurd cx (by simp))
    refine w_more (Nat.le_add_right _ 10) (Nat.le_add_right _ 71) ?_
    refine keep_90 hx hb hml hown hts hK hY h0 (Nat.le_trans (by decide) hRf) (Nat.le_trans (by decide) hRl) hB0 hcs hF hAP hW hS ha ha24 hP hl (fun H1 locs1 ls1 hH hS1 => kk H1 locs1 ls1 ?_ hS1)
    unfold kpS
    rw [hP]
    exact hH
set_option maxRecDepth 100000 in
set_option maxHeartbeats 4000000 in
theorem keep_18 {p : Program} {l : Launch} {e : Env} {R0 : Room} {s : State} {m : MethodId} {args : Array Value} {below : List Frame} {meth : Method} {c : Code} {cells slots : Nat} {Q : State → Prop} {D : dd_} {s0 : State} {ad : Nat → Nat} {I : Nat → Int32} {A : Nat → Nat → Int32} {R : Nat → Option Nat} {G : Nat → Nat → Option Nat} {X : va_W} {base : Nat} {own : Nat → Nat} {af : Nat → Nat → Nat} {ra : Nat → Nat × Nat} {ta : Nat × Nat} {Z : Dyn} (hx : p.tables.exec = Jvm.exec) (hb : c.code = cX0_keep) (hml : c.maxLocals = 3) (hown : s.vm.findClass RX0 = some m.cls) (hts : ∀ w ∈ lw_all, w.before args s = true) (hK : Kx D s) (hY : s0.WarmedH s.vm) (h0 : ∀ w ∈ lw_tbl, va_Nw w s0) (hRf : 1 ≤ R0.frames) (hRl : 32 ≤ R0.locals) (hB0 : base ≤ s.heap.size) (hF : XF D own af ra ta Z R G X) (hAP : AP xS ad X base) (hall : ∀ k, k < 24 → (Z.1 k).isSome = true) (kk : ∀ (H1 : Heap) (locs1 : List Loc) (ls1 : Array Slot), WX D xS ad I A R (va_up G 106 (rtG (G 106) 24)) X H1 → va_S (upB base) s.heap H1 locs1 → lv_has ls1 3 [(0, .ref (ad 199)), (1, .ref (af 0 99))] → W p l e R0 s m args below meth c H1 locs1 cells slots Q (F0 m 44 ls1 [])) : ∀ (d i : Nat) (H : Heap) (locs : List Loc) (ls : Array Slot), i + d = 24 → 1 ≤ i → WX D xS ad I A R (va_up G 106 (rtG (G 106) i)) X H → va_S (upB base) s.heap H locs → lv_has ls 3 [(2, .int (nI i)), (1, .ref (af 0 99)), (0, .ref (ad 199))] → W p l e R0 s m args below meth c H locs cells slots Q (F0 m 18 ls []) := by
  intro d
  induction d with
  | zero =>
    intro i H locs ls hd h1 hW hS hl
    refine lv_iload_n hx hb dX0_keep_18 rfl (lv_at hl 0 rfl) ?_
    refine lv_bipush (v := 24) hx hb dX0_keep_19 (by decide) ?_
    refine lv_icmp_ge (tgt := 44) hx hb dX0_keep_21 (by decide) (fun _ => ?_) (fun cx => absurd (by rw [show i = 24 by omega]; exact Int32.le_refl _) cx)
    refine kk H locs ls ?_ hS (lv_sub hl [2, 1] rfl)
    rw [show i = 24 by omega] at hW
    exact hW
  | succ d ih =>
    intro i H locs ls hd h1 hW hS hl
    obtain ⟨P, hP⟩ := Option.isSome_iff_exists.mp (hall i (by omega))
    obtain ⟨hg, vs, hvs⟩ := sl_in hF (show i < 26 by omega) hP
    refine lv_iload_n hx hb dX0_keep_18 rfl (lv_at hl 0 rfl) ?_
    refine lv_bipush (v := 24) hx hb dX0_keep_19 (by decide) ?_
    refine lv_icmp_ge (tgt := 44) hx hb dX0_keep_21 (by decide) (fun cx => absurd cx (nI_ge (b := 24) (by omega) (by decide))) (fun _ => ?_)
    refine lv_aload_n hx hb dX0_keep_24 rfl (lv_at hl 2 rfl) ?_
    refine x_get (v := .ref (ad 106)) hx hb hts hown hK hW xO199 in_X0 rfl 6 (by decide) q230 rfl rfl dX0_keep_25 ?_
    refine lv_iload_n hx hb dX0_keep_28 rfl (lv_at hl 0 rfl) ?_
    refine lv_iconst (v := 1) hx hb dX0_keep_29 (by decide) ?_
    refine lv_isub hx hb dX0_keep_30 ?_
    refine lv_aload_n hx hb dX0_keep_31 rfl (lv_at hl 2 rfl) ?_
    refine x_get (v := .ref (ad 106)) hx hb hts hown hK hW xO199 in_X0 rfl 6 (by decide) q230 rfl rfl dX0_keep_32 ?_
    refine lv_iload_n hx hb dX0_keep_35 rfl (lv_at hl 0 rfl) ?_
    refine x_aald (v := some (af i 99)) hx hb hK hW (by decide) xG106 (show aldO ((va_up G 106 (rtG (G 106) i)) 106) 24 (nI i) = some (some (af i 99)) by rw [ald_nI (by omega) (by decide), va_up_self]; unfold rtG; rw [if_neg (by omega), ← gs_p (G := G) (show i < 24 by omega), hg]) dX0_keep_36 ?_
    rw [show nI i - 1 = nI (i - 1) from pk_sub (b := 1) h1]
    refine x_aastP hx hb hK xwf hAP hW hS (by decide) xG106 (ci := 2) rfl hvs (vp_in_nI (by omega) (by decide)) dX0_keep_37 (fun H locs hW hS => ?_)
    refine lv_iinc (v := nI (i + 1)) (lv' := [(2, .int (nI (i + 1))), (1, .ref (af 0 99)), (0, .ref (ad 199))]) hx hb dX0_keep_38 hl (k := 0) rfl (nI_succ i).symm (by decide) rfl (fun ls hl => ?_)
    refine lv_goto (tgt := 18) hx hb dX0_keep_41 (by decide) ?_
    refine ih (i + 1) H locs ls (by omega) (by omega) ?_ hS hl
    have e : rtG (G 106) (i + 1) = va_up (rtG (G 106) i) (i - 1) (some (af i 99)) := by rw [← rtG_s (G 106) h1, ← gs_p (G := G) (show i < 24 by omega), hg]
    rw [e]
    rw [nI_clamp (by omega), va_up_self, bx_uu] at hW
    exact hW
/-- keep, as what it does to the world -/
def keepO (I : Nat → Int32) (A : Nat → Nat → Int32) (sp : Nat → Option Par) (q : Nat × Nat × (Nat → Nat)) (a : Nat) : Option ((Nat → Int32) × (Nat → Option Par)) :=
  if I 107 = nI a then (if a < 24 then some (upd I 107 (nI (a + 1)), kpS sp a I A q) else if a = 24 ∧ (List.range 24).all (fun k => (sp k).isSome) = true then some (upd I 107 24, kpS (fun k => sp (rt k)) 23 I A q) else none) else none
theorem updupd (f : Nat → Int32) (k : Nat) (x y : Int32) : upd (upd f k x) k y = upd f k y := by
  funext j
  unfold upd
  by_cases e : j = k
  · rw [if_pos e, if_pos e]
  · rw [if_neg e, if_neg e, if_neg e]
set_option maxRecDepth 100000 in
set_option maxHeartbeats 4000000 in
theorem keep_met (l : Launch) (D : dd_) (s0 : State) (h0 : ∀ w ∈ lw_tbl, va_Nw w s0) (ad : Nat → Nat) (base : Nat) (I : Nat → Int32) (A : Nat → Nat → Int32) (R : Nat → Option Nat) (Z : Dyn) (r1 r2 : Option Nat) (de : Nat) (hz : FZ base s0 r1 r2 de) (a : Nat) (I1 : Nat → Int32) (sp1 : Nat → Option Par) (hf : keepO I A Z.1 Z.2.2.2.1 a = some (I1, sp1)) : Met l yX0_keep (ws_ yX0_keep cX0_keep 3 none) ({ frames := 5, cells := 10, slots := 71, locals := 112 }) (PcH D s0 ad I A R Z base [.ref (ad 199)]) (QcE (HX D ad I1 A R (sp1, Z.2) base) base none) 10 71 (upB base) := by
  refine Met.ofW (cc := cX0_keep) (maxL := 3) (ret := none) (by decide) rfl ?_
  intro p e s m args below meth c s₁ B hml hv
  obtain ⟨rfl, hK, hY, hB0, hH, hq0⟩ := hv
  obtain ⟨G, X, own, af, ra, ta, hF, hAP, hW⟩ := hH
  have hx := B.exec
  have hb := B.bytes
  have hr := B.returns
  have hts := atoms_spec (ws := (ws_ yX0_keep cX0_keep 3 none)) B.pre
  have hts : ∀ w ∈ lw_all, w.before _ s = true := fun w h => hts w (List.mem_cons_of_mem _ h)
  have hown : s.vm.findClass RX0 = some m.cls := findClass_of_methodNamed B.named
  have hlocks := B.notSynchronized
  have hRf : 5 ≤ (headSpec (ws_ yX0_keep cX0_keep 3 none) ({ frames := 5, cells := 10, slots := 71, locals := 112 })).room.frames := Nat.le_refl _
  have hRl : 112 ≤ (headSpec (ws_ yX0_keep cX0_keep 3 none) ({ frames := 5, cells := 10, slots := 71, locals := 112 })).room.locals := Nat.le_refl _
  have hcc : 0 + 10 ≤ (headSpec (ws_ yX0_keep cX0_keep 3 none) ({ frames := 5, cells := 10, slots := 71, locals := 112 })).room.cells := Nat.le_refl _
  have hss : 0 + 71 ≤ (headSpec (ws_ yX0_keep cX0_keep 3 none) ({ frames := 5, cells := 10, slots := 71, locals := 112 })).room.slots := Nat.le_refl _
  have hS : va_S (upB base) s.heap s.heap [] := va_S.rf
  have hl := lv_entry ([.ref (ad 199)]) (n := 3) (Nat.le_of_ble_eq_true rfl)
  rw [lg_entry_eq]
  generalize (lg_sl ([.ref (ad 199)]) ++ List.replicate (3 - (lg_sl ([.ref (ad 199)])).length) Slot.unset).toArray = ls at hl ⊢
  have hl : lv_has ls 3 [(0, .ref (ad 199))] := hl
  unfold keepO at hf
  by_cases ha : I 107 = nI a
  · rw [if_pos ha] at hf
    by_cases ha24 : a < 24
    · rw [if_pos ha24] at hf
      obtain ⟨rfl, rfl⟩ := so2 hf
      refine lv_aload_n hx hb dX0_keep_0 rfl (lv_at hl 0 rfl) ?_
      refine x_get (v := .int (I 107)) hx hb hts hown hK hW xO199 in_X0 rfl 7 (by decide) q231 rfl rfl dX0_keep_1 ?_
      refine lv_bipush (v := 24) hx hb dX0_keep_4 (by decide) ?_
      refine lv_icmp_ne (tgt := 62) hx hb dX0_keep_6 (by decide) (fun _ => ?_) (fun cx => absurd cx (by rw [ha]; exact fun z => Nat.ne_of_lt ha24 ((nI_eq (by omega) (by decide)).mp z)))
      refine keep_62 hx hb hml hown hts hK hY h0 hRf hRl hB0 hz hq0 hcc hss hF hAP hW hS ha ha24 hl (fun H1 locs1 ls1 hH hS1 => ?_)
      rw [ha, nI_1] at hH
      exact W.vret hx hb hr (fun t ht _ => ⟨rfl, by rw [ht]; exact hH, hS1.F ht⟩) hS1.2.2 dX0_keep_117
    · rw [if_neg ha24] at hf
      by_cases hc : a = 24 ∧ (List.range 24).all (fun k => (Z.1 k).isSome) = true
      · rw [if_pos hc] at hf
        obtain ⟨rfl, rfl⟩ := so2 hf
        have hall : ∀ k, k < 24 → (Z.1 k).isSome = true := fun k hk => List.all_eq_true.mp hc.2 k (List.mem_range.mpr hk)
        obtain ⟨P0, hP0⟩ := Option.isSome_iff_exists.mp (hall 0 (by decide))
        obtain ⟨hg0, vs0, hvs0⟩ := sl_in hF (show 0 < 26 by decide) hP0
        refine lv_aload_n hx hb dX0_keep_0 rfl (lv_at hl 0 rfl) ?_
        refine x_get (v := .int (I 107)) hx hb hts hown hK hW xO199 in_X0 rfl 7 (by decide) q231 rfl rfl dX0_keep_1 ?_
        refine lv_bipush (v := 24) hx hb dX0_keep_4 (by decide) ?_
        refine lv_icmp_ne (tgt := 62) hx hb dX0_keep_6 (by decide) (fun cx => absurd (by rw [ha, hc.1]; rfl) cx) (fun _ => ?_)
        refine lv_aload_n hx hb dX0_keep_9 rfl (lv_at hl 0 rfl) ?_
        refine x_get (v := .ref (ad 106)) hx hb hts hown hK hW xO199 in_X0 rfl 6 (by decide) q230 rfl rfl dX0_keep_10 ?_
        refine lv_iconst (v := 0) hx hb dX0_keep_13 (by decide) ?_
        refine x_aald (v := some (af 0 99)) hx hb hK hW (by decide) xG106 (show aldO (G 106) 24 0 = some (some (af 0 99)) by rw [show (0 : Int32) = nI 0 from rfl, ald_nI (by decide) (by decide), ← gs_p (G := G) (show 0 < 24 by decide), hg0]) dX0_keep_14 ?_
        refine lv_astore_n (lv' := [(1, .ref (af 0 99)), (0, .ref (ad 199))]) hx hb dX0_keep_15 rfl hl (by decide) rfl (fun ls hl => ?_)
        refine lv_iconst (v := 1) hx hb dX0_keep_16 (by decide) ?_
        refine lv_istore_n (lv' := [(2, .int 1), (1, .ref (af 0 99)), (0, .ref (ad 199))]) hx hb dX0_keep_17 rfl hl (by decide) rfl (fun ls hl => ?_)
        refine keep_18 hx hb hml hown hts hK hY h0 (Nat.le_trans (by decide) hRf) (Nat.le_trans (by decide) hRl) hB0 hF hAP hall (fun H locs ls hW hS hl => ?_) 23 1 _ _ ls rfl (by decide) (by rw [rtG_1]; rw [show va_up G 106 (G 106) = G from by funext j; by_cases e : j = 106 <;> simp [va_up, e]]; exact hW) hS hl
        refine lv_aload_n hx hb dX0_keep_44 rfl (lv_at hl 0 rfl) ?_
        refine x_get (v := .ref (ad 106)) hx hb hts hown hK hW xO199 in_X0 rfl 6 (by decide) q230 rfl rfl dX0_keep_45 ?_
        refine lv_bipush (v := 23) hx hb dX0_keep_48 (by decide) ?_
        refine lv_aload_n hx hb dX0_keep_50 rfl (lv_at hl 1 rfl) ?_
        refine x_aastP hx hb hK xwf hAP hW hS (by decide) xG106 (ci := 2) rfl hvs0 (j := 23) (by unfold vp_in; decide) dX0_keep_51 (fun H locs hW hS => ?_)
        rw [va_up_self, bx_uu, show (23 : Int32).toNatClampNeg = 23 from rfl] at hW
        rw [show some (af 0 99) = G 106 0 from by rw [← hg0, gs_p (by decide)]] at hW
        refine lv_aload_n hx hb dX0_keep_52 rfl (lv_at hl 0 rfl) ?_
        refine lv_dup hx hb dX0_keep_53 rfl ?_
        refine x_get (v := .int (I 107)) hx hb hts hown hK hW xO199 in_X0 rfl 7 (by decide) q231 rfl rfl dX0_keep_54 ?_
        refine lv_iconst (v := 1) hx hb dX0_keep_57 (by decide) ?_
        refine lv_isub hx hb dX0_keep_58 ?_
        refine x_putI hx hb hts hown hK xwf hAP hW hS xO199 in_X0 tyX0 tyX0_ok nmX0 rfl 7 107 (by decide) rfl q231 rfl rfl (by decide +kernel) dX0_keep_59 (fun H locs hW hS => ?_)
        have hF := hF.rot
        refine keep_62 (a := 23) hx hb hml hown hts hK hY h0 hRf hRl hB0 hz hq0 hcc hss hF hAP hW hS (by rw [show (upd I 107 (I 107 - 1)) 107 = I 107 - 1 from if_pos rfl, ha, hc.1]; rfl) (by decide) (lv_sub hl [0] rfl) (fun H1 locs1 ls1 hH hS1 => ?_)
        have hH : HX D ad (upd (upd I 107 (I 107 - 1)) 107 ((upd I 107 (I 107 - 1)) 107 + 1)) A R (kpS (fun k => Z.1 (rt k)) 23 (upd I 107 (I 107 - 1)) A Z.2.2.2.1, Z.2) base H1 := hH
        rw [updupd, show (upd I 107 (I 107 - 1)) 107 = I 107 - 1 from if_pos rfl, ha, hc.1, show (nI 24 - 1 + 1 : Int32) = 24 from rfl] at hH
        have e : kpS (fun k => Z.1 (rt k)) 23 (upd I 107 (nI 24 - 1)) A Z.2.2.2.1 = kpS (fun k => Z.1 (rt k)) 23 I A Z.2.2.2.1 := by unfold kpS; rw [sh_upd (by decide)]
        rw [e] at hH
        exact W.vret hx hb hr (fun t ht _ => ⟨rfl, by rw [ht]; exact hH, hS1.F ht⟩) hS1.2.2 dX0_keep_117
      · rw [if_neg hc] at hf
        cases hf
  · rw [if_neg ha] at hf
    cases hf
