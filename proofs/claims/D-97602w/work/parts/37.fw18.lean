/-! FRAMEWORK 18: contracts over HX out of those over WX; calls of methods with handlers -/
set_option maxRecDepth 100000
section H18
variable {p : Program} {l : Launch} {e : Env} {R0 : Room} {s : State} {m : MethodId} {args : Array Value} {below : List Frame} {meth : Method} {c : Code} {H : Heap} {locs : List Loc} {cells slots : Nat} {Q : State → Prop}
variable {D : dd_} {s0 : State} {ad : Nat → Nat} {I I1 : Nat → Int32} {A A1 : Nat → Nat → Int32} {R R1 : Nat → Option Nat} {G : Nat → Nat → Option Nat} {X : va_W} {base : Nat}
variable {own : Nat → Nat} {af : Nat → Nat → Nat} {ra : Nat → Nat × Nat} {ta : Nat × Nat} {Z : Dyn}
theorem pch_at (hY : s0.WarmedH s.vm) (hK : Kx D s) (hB : base ≤ H.size) (hH : HX D ad I A R Z base H) (hq : ∀ q : Nat, q < base → H[q]? = s0.heap[q]?) {av : List Value} : ∀ U : State, U.heap = H → s.WarmedH U.vm → PcH D s0 ad I A R Z base av av.toArray U := fun U hU hw => ⟨rfl, Kx.moved hw.alike hK, State.WarmedH.trans hY hw, by rw [hU]; exact hB, by rw [hU]; exact hH, by rw [hU]; exact hq⟩
theorem XF.reg {P : Nat → Option Par} {N : Nat → Option Rw_} {T : Int32 × (Nat → Int32)} {pl n : Nat} {ks : Nat → Nat} {Y : va_W} (h : XF D own af ra ta (P, N, T, (pl, n, ks), Y) R G X) : RegX D X pl n ks := h.2.2.2.2.2.1.mono (fun q hq => (Xt_mem.mp hq).1)
theorem XF.r {Z : Dyn} (h : XF D own af ra ta Z R G X) (h1 : R1 109 = R 109) (h2 : R1 201 = R 201) : XF D own af ra ta Z R1 G X := ⟨h.1, h.2.1, h.2.2.1, by rw [h1]; exact h.2.2.2.1, by rw [h2]; exact h.2.2.2.2.1, h.2.2.2.2.2.1, h.2.2.2.2.2.2⟩
theorem liftR {y : MethodName} {ws : List Cond} {rm : Room} {av : List Value} {ov : Option Value} (hM : ∀ (G : Nat → Nat → Option Nat) (X : va_W) (own : Nat → Nat) (af : Nat → Nat → Nat) (ra : Nat → Nat × Nat) (ta : Nat × Nat), XF D own af ra ta Z R G X → Met l y ws rm (PcX D s0 xS ad I A R G X base av) (QcR ov) 0 0 (fun _ => False)) : Met l y ws rm (PcH D s0 ad I A R Z base av) (QcE (HX D ad I A R Z base) base ov) 0 0 (upB base) := by
  refine Met.lift (fun a st hp => ?_)
  obtain ⟨rfl, hK, hY, hB, hH, hq⟩ := hp
  obtain ⟨G, X, own, af, ra, ta, hF, hAP, hW⟩ := hH
  refine ⟨_, _, _, hM G X own af ra ta hF, ⟨rfl, hK, hY, hB, hW⟩, fun o t h => ?_, fun q h => h.elim⟩
  obtain ⟨h1, h2⟩ := h
  exact ⟨h1, ⟨G, X, own, af, ra, ta, hF, hAP, by rw [h2]; exact hW⟩, by rw [h2]; exact Nat.le_refl _, fun q _ _ => by rw [h2]⟩
theorem liftW {y : MethodName} {ws : List Cond} {rm : Room} {av : List Value} {ov : Option Value} (h1 : R1 109 = R 109) (h2 : R1 201 = R 201) (hM : ∀ (G : Nat → Nat → Option Nat) (X : va_W) (own : Nat → Nat) (af : Nat → Nat → Nat) (ra : Nat → Nat × Nat) (ta : Nat × Nat), XF D own af ra ta Z R G X → AP xS ad X base → Met l y ws rm (PcX D s0 xS ad I A R G X base av) (QcX D xS ad I1 A1 R1 G X base ov) 0 0 (upB base)) : Met l y ws rm (PcH D s0 ad I A R Z base av) (QcE (HX D ad I1 A1 R1 Z base) base ov) 0 0 (upB base) := by
  refine Met.lift (fun a st hp => ?_)
  obtain ⟨rfl, hK, hY, hB, hH, hq⟩ := hp
  obtain ⟨G, X, own, af, ra, ta, hF, hAP, hW⟩ := hH
  refine ⟨_, _, _, hM G X own af ra ta hF hAP, ⟨rfl, hK, hY, hB, hW⟩, fun o t h => ?_, fun q h => h⟩
  exact ⟨h.1, ⟨G, X, own, af, ra, ta, hF.r h1 h2, hAP, h.2.1⟩, h.2.2⟩
variable {y : MethodName} {bytes cc : ByteArray} {maxL nL mc ms n index : Nat} {ret : Option FieldType} {hh : List (Nat × Nat × Nat × Nat)} {rm : Room} {Pc : Array Value → State → Prop} {Qc : Array Value → State → Outcome → State → Prop} {free : Addr → Prop} {C on : String} {b : Addr} {As rest : List Value} {g : JFrame}
/-- a virtual call of a method with handlers -/
theorem runVW (S : CallFix p m c cc nL s args lw_all on) (hM : Met l y (wsW_ y bytes maxL ret hh) rm Pc Qc mc ms free) (hT : GoodIn lw_all (wsV on index C y (wsW_ y bytes maxL ret hh))) (hrc : rm.cells = mc) (hrs : rm.slots = ms)
    (hd : y.cls = C ∧ y.cls ≠ "java/lang/invoke/MethodHandle" ∧ y.cls ≠ "java/lang/invoke/VarHandle" ∧ (parseMethodDescriptor y.desc).map (fun d => d.parameters.length) = some n) (hR : rm.frames + 1 ≤ R0.frames ∧ 8 + (maxL + 11) + rm.locals ≤ R0.locals) (hp : PreV s H C b Pc As)
    (hg : g.method = m) (hn : As.length = n) (hsize : g.locals.size = nL) (hstack : g.stack = As.reverse ++ .ref b :: rest) (hW : 2 * g.monitorRoom + (rest.map fun v => v.category).sum ≤ 8) (hdg : decode cc g.pc = .ok (.invokevirtual index, 3)) (hf : cells + mc ≤ R0.cells ∧ slots + ms ≤ R0.slots) :
    va_Run p l e R0 s m args below meth c H locs cells slots mc ms g rest (Qc (Value.ref b :: As).toArray) free := by
  obtain ⟨hC, hd1, hd2, hd3⟩ := hd
  subst hC
  obtain ⟨hx, hb, hml, ho, hts⟩ := S
  have ok : ∀ w ∈ wsV on index y.cls y (wsW_ y bytes maxL ret hh), w.before args s = true := fun w h => hts w (hT w h).1
  have hG : GoodIn lw_all (wsW_ y bytes maxL ret hh) := fun w h => hT w (by unfold wsV; exact List.mem_append_right _ h)
  have hcw : Cond.codeWith y bytes maxL ret hh ∈ wsW_ y bytes maxL ret hh := List.mem_cons_self
  have hcode := hts _ (hG _ hcw).1
  have hini : (Cond.initialized y.cls).before args s = true := ok _ (by simp [wsV])
  have hl : (Cond.methodLink on index y).before args s = true := ok _ (by simp [wsV])
  have hin : (Cond.instanceMethod y).before args s = true := ok _ (by simp [wsV])
  have hse : (Cond.selects y.cls y y).before args s = true := ok _ (by simp [wsV])
  have hlen : ∀ sig, parseMethodDescriptor y.desc = some sig → n = sig.parameters.length := fun sig h => by
    rw [h] at hd3
    exact (Option.some.inj hd3).symm
  obtain ⟨hbl, ⟨cellB, hcB, hoB, hclB⟩, hPc⟩ := hp
  have hK : Back l R0 p e below s args y 3 8 (PreOf R0 mc ms Pc) (PostOf Qc mc ms free) := va_backW (hh := hh) (bytes := bytes) (maxL := maxL) (ret := ret) hM hbl hrc hrs hR.1 hR.2 (pay_in hts hG) hcw (fun a' U hW => word_at hW (Or.inl (by first | rfl | simp [Cond.onTables, Cond.keeps, Cond.steady])) hini)
  intro T hT2 X
  obtain ⟨mk, methM, hnamed, hmethM, hstM, habM⟩ := Cond.instanceMethod_spec hin
  obtain ⟨m9, methM', cM, hn9, hmethM', -, -, -, -, -, -, hsigM⟩ := Cond.codeWith_spec hcode
  cases hnamed.symm.trans hn9
  cases hmethM.symm.trans hmethM'
  obtain ⟨c2, r2, m2, q1, q2, q3, q4, kP, hkP, hkPi⟩ := Cond.selects_spec hse
  cases hclB.symm.trans q1
  cases (State.methodFound?_of_named hnamed ⟨hd1, hd2⟩).symm.trans q2
  cases hnamed.symm.trans q3
  have hselP : selectMethod e.platform s.vm cellB.cls mk = .method mk := by rw [Launch.admits_selectMethod X.admits]; exact q4
  obtain ⟨vm₁, X₁, hstep₁⟩ := X.invokevirtual hx ho hl hnamed hmethM hstM hkP hkPi ⟨hd1, hd2⟩ (a := b) (cell := cellB) (by rw [hT2]; exact hcB)
    (fun z h => by rw [h] at hoB; cases hoB) hselP hmethM habM hkP hkPi (g := g) hg (argsL := As) (rest := rest) (hn.trans (hlen _ hsigM)) hstack (by rw [hb]; exact hdg)
  obtain ⟨v, ⟨U', l2, c2, s2⟩, X', ⟨g', mk', t, L, e1, e2, hq, h1, hL, h2, h3⟩, hsteps⟩ := hK m meth c ⟨T.setVm vm₁, locs, cells, slots⟩ { g with stack := rest } (.invokevirtual index) mk (Value.ref b :: As).toArray X₁ hg (hsize.trans hml.symm) (by rw [hb]; exact hdg) hW (X₁.named hnamed) ⟨hf.1, hf.2, hPc (T.setVm vm₁) hT2 X₁.warmed⟩
  dsimp only [Pt.U, Pt.locs, Pt.cells, Pt.slots] at X' e1 e2 h1 h2 h3 hsteps
  subst h1; subst h2; subst h3
  exact ⟨v, (T.setVm vm₁).calling g' mk' (Value.ref b :: As).toArray, t, U', L, hT2, X', hL, e1, e2, hq, fun target h => hstep₁ _ fun acts => by rw [doInvoke_state]; exact hsteps.trans h⟩
end H18
abbrev tabE (c : Code) : List (Nat × Nat × Nat × Nat) := c.exceptionTable.toList.map (fun h => (h.startPc, h.endPc, h.handlerPc, h.catchType))
theorem tab_at {c : Code} {hs : List (Nat × Nat × Nat × Nat)} (e : tabE c = hs) (k : Nat) {a b h t : Nat} (hk : hs[k]? = some (a, b, h, t)) : ∃ (pre rs : List ExceptionTableEntry) (x0 : ExceptionTableEntry), c.exceptionTable.toList = pre ++ x0 :: rs ∧ pre.length = k ∧ x0.startPc = a ∧ x0.endPc = b ∧ x0.handlerPc = h ∧ x0.catchType = t ∧ pre.map (fun h => (h.startPc, h.endPc, h.handlerPc, h.catchType)) = hs.take k := by
  subst e
  rw [List.getElem?_map] at hk
  cases hx : c.exceptionTable.toList[k]? with
  | none => rw [hx] at hk; cases hk
  | some x0 =>
    rw [hx] at hk
    obtain ⟨hl, he⟩ := List.getElem?_eq_some_iff.mp hx
    have hk : (x0.startPc, x0.endPc, x0.handlerPc, x0.catchType) = (a, b, h, t) := Option.some.inj hk
    injection hk with k1 k2
    injection k2 with k2 k3
    injection k3 with k3 k4
    refine ⟨c.exceptionTable.toList.take k, c.exceptionTable.toList.drop (k + 1), x0, ?_, ?_, k1, k2, k3, k4, ?_⟩
    · rw [← he, List.getElem_cons_drop, List.take_append_drop]
    · rw [List.length_take]; omega
    · rw [List.map_take]
/-! FRAMEWORK 19: slots read and put -/
set_option maxRecDepth 100000
def slN (lo N : Nat) (i : Int32) : Option Nat := if i < 0 ∨ N ≤ i.toNatClampNeg then none else some (lo + i.toNatClampNeg)
theorem slN_e {lo N k : Nat} {i : Int32} (h : slN lo N i = some k) : vp_in i N ∧ lo + i.toNatClampNeg = k := by
  unfold slN at h
  by_cases c : i < 0 ∨ N ≤ i.toNatClampNeg
  · rw [if_pos c] at h; cases h
  · rw [if_neg c] at h; exact ⟨c, Option.some.inj h⟩
theorem slN_ok {lo N k : Nat} {i : Int32} (hi : i = nI k) (hk : k < N) (hN : N < 2 ^ 31) : slN lo N i = some (lo + k) := by
  subst hi
  have := vp_in_nI hk hN
  unfold slN
  rw [if_neg this, nI_clamp (by omega)]
theorem slN_lt {lo N k : Nat} {i : Int32} (h : slN lo N i = some k) : lo ≤ k ∧ k < lo + N := by
  obtain ⟨h1, h2⟩ := slN_e h
  have : i.toNatClampNeg < N := Nat.not_le.mp fun z => h1 (Or.inr z)
  omega
section S19
variable {D : dd_} {own : Nat → Nat} {af : Nat → Nat → Nat} {ra : Nat → Nat × Nat} {ta : Nat × Nat} {P : Nat → Option Par} {N : Nat → Option Rw_} {T : Int32 × (Nat → Int32)} {Q : Nat × Nat × (Nat → Nat)} {Y : va_W} {R : Nat → Option Nat} {G : Nat → Nat → Option Nat} {X : va_W} {k : Nat} {B : Par} {i : Int32}
theorem ald_past (hF : XF D own af ra ta (P, N, T, Q, Y) R G X) (h : slN 0 24 i = some k) (hP : P k = some B) : aldO (G 106) 24 i = some (some (af k 99)) := by
  obtain ⟨h1, h2⟩ := slN_e h
  have h3 := slN_lt h
  unfold aldO
  rw [if_neg h1, show i.toNatClampNeg = k by omega, ← gs_p (G := G) (show k < 24 by omega), (sl_in hF (show k < 26 by omega) hP).1]
theorem ald_img (hF : XF D own af ra ta (P, N, T, Q, Y) R G X) (h : slN 24 2 i = some k) (hP : P k = some B) : aldO (G 108) 2 i = some (some (af k 99)) := by
  obtain ⟨h1, h2⟩ := slN_e h
  have h3 := slN_lt h
  have e := (sl_in hF (show k < 26 by omega) hP).1
  rw [show k = 24 + (k - 24) by omega, gs_i] at e
  unfold aldO
  rw [if_neg h1, show i.toNatClampNeg = k - 24 by omega, e, show 24 + (k - 24) = k by omega]
theorem ald_imgN (hF : XF D own af ra ta (P, N, T, Q, Y) R G X) (h : slN 24 2 i = some k) (hP : P k = none) : aldO (G 108) 2 i = some none := by
  obtain ⟨h1, h2⟩ := slN_e h
  have h3 := slN_lt h
  have e := (hF.1 k (by omega)).1 hP
  rw [show k = 24 + (k - 24) by omega, gs_i] at e
  unfold aldO
  rw [if_neg h1, show i.toNatClampNeg = k - 24 by omega, e]
theorem put_img {a1 : Nat → Nat} {B : Par} (hF : XF D own af ra ta (P, N, T, Q, Y) R G X) (h : slN 24 2 i = some k) (hi : Inj pS a1) (hc : ∀ q ∈ pw D a1 B, q ∈ Xt own k X) (hR : RegX D (Xt own 400 X) B.2.2.1 B.2.2.2.1 B.2.2.2.2) : XF D own (va_up af k a1) ra ta (va_up P k (some B), N, T, Q, Y) R (va_up G 108 (va_up (G 108) i.toNatClampNeg (some (a1 99)))) X := by
  obtain ⟨h1, h2⟩ := slN_e h
  have h3 := slN_lt h
  refine hF.put (k := k) (a1 := a1) (P := B) (fun j hj => ?_) (va_up_ne _ _ (by decide)) hi hc hR
  unfold gs
  by_cases e : j = k
  · subst e
    rw [if_neg (by omega), if_pos rfl, va_up_self, show j - 24 = i.toNatClampNeg by omega, va_up_self]
  · rw [if_neg e]
    by_cases e2 : j < 24
    · rw [if_pos e2, if_pos e2, va_up_ne _ _ (by decide)]
    · rw [if_neg e2, if_neg e2, va_up_self, va_up_ne _ _ (by omega)]
end S19
theorem in_d {a v : Int32} (h : x_isIn a.toInt64 1 24 = some v) (hv : ¬ v = 0) : ∃ d : Nat, d ≤ 24 ∧ a = nI d := by
  unfold x_isIn at h
  by_cases h1 : lg_cmp a.toInt64 1 < 0
  · rw [if_pos h1] at h
    exact absurd (Option.some.inj h).symm hv
  · rw [if_neg h1] at h
    by_cases h2 : 0 < lg_cmp a.toInt64 24
    · rw [if_pos h2] at h
      exact absurd (Option.some.inj h).symm hv
    · have g1 : ¬ a.toInt64 < 1 := fun z => h1 ((lg_cmp_lt _ _).mpr z)
      have g2 : ¬ 24 < a.toInt64 := fun z => h2 ((lg_cmp_gt _ _).mpr z)
      rw [Int64.lt_iff_toInt_lt, Int32.toInt_toInt64, show (1 : Int64).toInt = 1 from rfl] at g1
      rw [Int64.lt_iff_toInt_lt, Int32.toInt_toInt64, show (24 : Int64).toInt = 24 from rfl] at g2
      obtain ⟨j, h3, rfl⟩ := nI_of (x := a) (fun z => by
        have := Int32.lt_iff_toInt_lt.mp z
        rw [show (0 : Int32).toInt = 0 from rfl] at this
        omega)
      rw [nI_toInt h3] at g1 g2
      exact ⟨j, by omega, rfl⟩
