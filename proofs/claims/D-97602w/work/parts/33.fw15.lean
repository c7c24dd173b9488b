/-! FRAMEWORK 15: contracts over HX; the past turned round -/
set_option maxRecDepth 100000
def PcH (D : dd_) (s0 : State) (ad : Nat → Nat) (I : Nat → Int32) (A : Nat → Nat → Int32) (R : Nat → Option Nat) (Z : Dyn) (base : Nat) (av : List Value) : Array Value → State → Prop := fun v U => v = av.toArray ∧ Kx D U ∧ s0.WarmedH U.vm ∧ base ≤ U.heap.size ∧ HX D ad I A R Z base U.heap ∧ ∀ q : Nat, q < base → U.heap[q]? = s0.heap[q]?
theorem PcH_blind {D : dd_} {s0 : State} {ad : Nat → Nat} {I : Nat → Int32} {A : Nat → Nat → Int32} {R : Nat → Option Nat} {Z : Dyn} {base : Nat} {av : List Value} : FrameBlind (PcH D s0 ad I A R Z base av) := fun a U g mk h => ⟨h.1, Kx.moved (u := U) (U := U.calling g mk a) (Vm.Alike.refl U.vm) h.2.1, h.2.2.1, h.2.2.2.1, h.2.2.2.2⟩
def rt (k : Nat) : Nat := if k < 23 then k + 1 else if k = 23 then 0 else k
def rtG (g : Nat → Option Nat) (i : Nat) : Nat → Option Nat := fun j => if j + 1 < i then g (j + 1) else g j
theorem rtG_1 (g : Nat → Option Nat) : rtG g 1 = g := by
  funext j
  unfold rtG
  rw [if_neg (by omega)]
theorem rtG_s (g : Nat → Option Nat) {i : Nat} (h : 1 ≤ i) : va_up (rtG g i) (i - 1) (g i) = rtG g (i + 1) := by
  funext j
  unfold rtG va_up
  by_cases e : j = i - 1
  · subst e
    rw [if_pos rfl, if_pos (by omega)]
    congr 1
    omega
  · rw [if_neg e]
    show (if j + 1 < i then g (j + 1) else g j) = _
    by_cases e2 : j + 1 < i
    · rw [if_pos e2, if_pos (by omega)]
    · rw [if_neg e2, if_neg (by omega)]
def rtOwn (own : Nat → Nat) : Nat → Nat := fun a => if own a = 0 then 23 else if own a < 24 then own a - 1 else own a
theorem rtOwn_iff {own : Nat → Nat} {a k : Nat} (hk : k < 24) : rtOwn own a = k ↔ own a = rt k := by
  unfold rtOwn rt
  by_cases h1 : own a = 0
  · rw [if_pos h1]
    by_cases h2 : k < 23
    · rw [if_pos h2]; omega
    · rw [if_neg h2, if_pos (by omega)]; omega
  · rw [if_neg h1]
    by_cases h3 : own a < 24
    · rw [if_pos h3]
      by_cases h2 : k < 23
      · rw [if_pos h2]; omega
      · rw [if_neg h2, if_pos (by omega)]; omega
    · rw [if_neg h3]
      by_cases h2 : k < 23
      · rw [if_pos h2]; omega
      · rw [if_neg h2, if_pos (by omega)]; omega
theorem rtOwn_hi {own : Nat → Nat} {a k : Nat} (hk : 24 ≤ k) : rtOwn own a = k ↔ own a = k := by
  unfold rtOwn
  by_cases h1 : own a = 0
  · rw [if_pos h1]; omega
  · rw [if_neg h1]
    by_cases h3 : own a < 24
    · rw [if_pos h3]; omega
    · rw [if_neg h3]
theorem rt_lt {k : Nat} (h : k < 26) : rt k < 26 := by
  unfold rt
  split
  · omega
  · split <;> omega
theorem Xt_rt {own : Nat → Nat} {X : va_W} {k : Nat} (hk : k < 26) : Xt (rtOwn own) k X = Xt own (rt k) X := by
  unfold Xt
  congr 1
  funext q
  by_cases h : k < 24
  · exact decide_eq_decide.mpr (rtOwn_iff h)
  · have : rt k = k := by unfold rt; rw [if_neg (by omega), if_neg (by omega)]
    rw [this]
    exact decide_eq_decide.mpr (rtOwn_hi (by omega))
theorem Xt_rh {own : Nat → Nat} {X : va_W} {k : Nat} (hk : 24 ≤ k) : Xt (rtOwn own) k X = Xt own k X := by
  unfold Xt
  congr 1
  funext q
  exact decide_eq_decide.mpr (rtOwn_hi hk)
theorem gs_rt {G : Nat → Nat → Option Nat} {k : Nat} (hk : k < 26) : gs (va_up G 106 (va_up (rtG (G 106) 24) 23 (G 106 0))) k = gs G (rt k) := by
  unfold gs rt
  by_cases h1 : k < 23
  · rw [if_pos (by omega), if_pos h1, if_pos (by omega), va_up_self, va_up_ne _ _ (by omega)]
    unfold rtG
    rw [if_pos (by omega)]
  · by_cases h2 : k = 23
    · subst h2
      rfl
    · rw [if_neg (by omega), if_neg h1, if_neg h2, if_neg (by omega), va_up_ne _ _ (by decide)]
theorem XF.rot {D : dd_} {own : Nat → Nat} {af : Nat → Nat → Nat} {ra : Nat → Nat × Nat} {ta : Nat × Nat} {Z : Dyn} {R : Nat → Option Nat} {G : Nat → Nat → Option Nat} {X : va_W} (h : XF D own af ra ta Z R G X) : XF D (rtOwn own) (fun k => af (rt k)) ra ta (fun k => Z.1 (rt k), Z.2) R (va_up G 106 (va_up (rtG (G 106) 24) 23 (G 106 0))) X := by
  obtain ⟨a1, a2, a3, a4, a5, a6, a7⟩ := h
  have e4 : Xt (rtOwn own) 400 X = Xt own 400 X := Xt_rh (by decide)
  refine ⟨fun k hk => ?_, fun k hk => ?_, ?_, a4, a5, by rw [e4]; exact a6, by rw [Xt_rh (by decide)]; exact a7⟩
  · rw [gs_rt hk, Xt_rt hk, e4]
    exact a1 (rt k) (rt_lt hk)
  · rw [Xt_rh (by omega), va_up_ne _ _ (by decide)]
    exact a2 k hk
  · unfold TrX
    rw [Xt_rh (by decide)]
    exact a3
