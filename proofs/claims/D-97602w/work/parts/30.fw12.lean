/-! FRAMEWORK 12: the dynamic part of the system's world -/
set_option maxRecDepth 100000
abbrev Par : Type := (Nat → Int32) × (Nat → Nat → Int32) × Nat × Nat × (Nat → Nat)
abbrev Rw_ : Type := Int32 × Nat × (Nat → Int32)
abbrev Dyn : Type := (Nat → Option Par) × (Nat → Option Rw_) × (Int32 × (Nat → Int32)) × (Nat × Nat × (Nat → Nat)) × va_W
def Xt (own : Nat → Nat) (t : Nat) (X : va_W) : va_W := X.filter (fun q => decide (own q.1 = t))
theorem Xt_mem {own : Nat → Nat} {t : Nat} {X : va_W} {q : Nat × va_E} : q ∈ Xt own t X ↔ q ∈ X ∧ own q.1 = t := by
  unfold Xt
  rw [List.mem_filter, decide_eq_true_iff]
def gs (G : Nat → Nat → Option Nat) (k : Nat) : Option Nat := if k < 24 then G 106 k else G 108 (k - 24)
def pw (D : dd_) (af : Nat → Nat) (P : Par) : va_W := wl D pS af P.1 P.2.1 (fun _ => some P.2.2.1) nG
def SlX (D : dd_) (own : Nat → Nat) (af : Nat → Nat → Nat) (sp : Nat → Option Par) (G : Nat → Nat → Option Nat) (X : va_W) : Prop := ∀ k, k < 26 → (sp k = none → gs G k = none) ∧ ∀ P, sp k = some P → gs G k = some (af k 99) ∧ Inj pS (af k) ∧ (∀ q ∈ pw D (af k) P, q ∈ Xt own k X) ∧ RegX D (Xt own 400 X) P.2.2.1 P.2.2.2.1 P.2.2.2.2
def RwX (D : dd_) (own : Nat → Nat) (ra : Nat → Nat × Nat) (rw : Nat → Option Rw_) (G : Nat → Nat → Option Nat) (X : va_W) : Prop := ∀ k, k < 8 → (rw k = none → G 100 k = none) ∧ ∀ r, rw k = some r → G 100 k = some (ra k).1 ∧ r.2.1 ≤ 40 ∧ ((ra k).1, Sum.inr (5, [.int r.1, .ref (ra k).2])) ∈ Xt own (100 + k) X ∧ ((ra k).2, Sum.inl (D.2 .int, r.2.1, Sum.inl r.2.2)) ∈ Xt own (100 + k) X
def TrX (D : dd_) (own : Nat → Nat) (ta : Nat × Nat) (tr : Int32 × (Nat → Int32)) (X : va_W) : Prop := (ta.1, Sum.inr (3, [.ref ta.2, .int tr.1])) ∈ Xt own 200 X ∧ (ta.2, Sum.inl (D.2 .int, 16, Sum.inl tr.2)) ∈ Xt own 200 X
def XF (D : dd_) (own : Nat → Nat) (af : Nat → Nat → Nat) (ra : Nat → Nat × Nat) (ta : Nat × Nat) (Z : Dyn) (R : Nat → Option Nat) (G : Nat → Nat → Option Nat) (X : va_W) : Prop := SlX D own af Z.1 G X ∧ RwX D own ra Z.2.1 G X ∧ TrX D own ta Z.2.2.1 X ∧ R 109 = some ta.1 ∧ R 201 = some Z.2.2.2.1.1 ∧ RegX D (Xt own 400 X) Z.2.2.2.1.1 Z.2.2.2.1.2.1 Z.2.2.2.1.2.2 ∧ ∀ q ∈ Z.2.2.2.2, q ∈ Xt own 300 X
def HX (D : dd_) (ad : Nat → Nat) (I : Nat → Int32) (A : Nat → Nat → Int32) (R : Nat → Option Nat) (Z : Dyn) (base : Nat) (H : Heap) : Prop := ∃ (G : Nat → Nat → Option Nat) (X : va_W) (own : Nat → Nat) (af : Nat → Nat → Nat) (ra : Nat → Nat × Nat) (ta : Nat × Nat), XF D own af ra ta Z R G X ∧ AP xS ad X base ∧ WX D xS ad I A R G X H
theorem Xt_mono {own : Nat → Nat} {t t' : Nat} {X X1 : va_W} (h : ∀ q ∈ X, own q.1 ≠ t → q ∈ X1) (ht : t' ≠ t) : ∀ q ∈ Xt own t' X, q ∈ Xt own t' X1 := fun q hq => by
  obtain ⟨h1, h2⟩ := Xt_mem.mp hq
  exact Xt_mem.mpr ⟨h q h1 (by rw [h2]; exact ht), h2⟩
/-- a slot's parish is changed -/
theorem XF.slot {D : dd_} {own : Nat → Nat} {af : Nat → Nat → Nat} {ra : Nat → Nat × Nat} {ta : Nat × Nat} {Z : Dyn} {R : Nat → Option Nat} {G : Nat → Nat → Option Nat} {X X1 : va_W} {k : Nat} {P P1 : Par} (h : XF D own af ra ta Z R G X) (hk : k < 26) (hP : Z.1 k = some P) (h1 : ∀ q ∈ X, own q.1 ≠ k → q ∈ X1) (h2 : ∀ q ∈ pw D (af k) P1, q ∈ X1) (h3 : RegX D (Xt own 400 X) P1.2.2.1 P1.2.2.2.1 P1.2.2.2.2) : XF D own af ra ta (va_up Z.1 k (some P1), Z.2) R G X1 := by
  obtain ⟨a1, a2, a3, a4, a5, a6, a7⟩ := h
  have m4 := Xt_mono (t' := 400) h1 (by omega)
  refine ⟨fun j hj => ?_, fun j hj => ?_, ⟨Xt_mono h1 (by omega) _ a3.1, Xt_mono h1 (by omega) _ a3.2⟩, a4, a5, a6.mono m4, fun q hq => Xt_mono h1 (by omega) q (a7 q hq)⟩
  · obtain ⟨b1, b2⟩ := a1 j hj
    by_cases e : j = k
    · subst e
      obtain ⟨c1, c2, c3, c4⟩ := b2 P hP
      refine ⟨fun z => ?_, fun P' z => ?_⟩
      · rw [show (va_up Z.1 j (some P1), Z.2).1 j = some P1 from va_up_self _ _ _] at z
        cases z
      · rw [show (va_up Z.1 j (some P1), Z.2).1 j = some P1 from va_up_self _ _ _] at z
        cases z
        refine ⟨c1, c2, fun q hq => Xt_mem.mpr ⟨h2 q hq, ?_⟩, h3.mono m4⟩
        obtain ⟨i, hi⟩ := List.getElem?_of_mem hq
        obtain ⟨x, hx, ex⟩ := wl_at hi
        obtain ⟨i2, hi2⟩ : ∃ i2, (pw D (af j) P)[i2]? = some ((pw D (af j) P)[i2]?.getD q) ∧ ((pw D (af j) P)[i2]?.getD q).1 = af j x := by
          have hl : i < (pw D (af j) P).length := by
            have e1 : (pw D (af j) P).length = (pw D (af j) P1).length := by simp [pw, wl]
            rw [e1]
            exact (List.getElem?_eq_some_iff.mp hi).1
          refine ⟨i, by rw [List.getElem?_eq_getElem hl]; rfl, ?_⟩
          rw [List.getElem?_eq_getElem hl]
          obtain ⟨y, hy, ey⟩ := wl_at (List.getElem?_eq_getElem hl)
          cases hx.symm.trans hy
          exact ey
        have := (Xt_mem.mp (c3 _ (List.mem_of_getElem? hi2.1))).2
        rw [hi2.2] at this
        rw [ex]
        exact this
    · have eu : (va_up Z.1 k (some P1), Z.2).1 j = Z.1 j := va_up_ne _ _ e
      rw [eu]
      exact ⟨b1, fun P' z => by
        obtain ⟨c1, c2, c3, c4⟩ := b2 P' z
        exact ⟨c1, c2, fun q hq => Xt_mono h1 e q (c3 q hq), c4.mono m4⟩⟩
  · obtain ⟨b1, b2⟩ := a2 j hj
    exact ⟨b1, fun r z => by
      obtain ⟨c1, c2, c3, c4⟩ := b2 r z
      exact ⟨c1, c2, Xt_mono h1 (by omega) _ c3, Xt_mono h1 (by omega) _ c4⟩⟩
