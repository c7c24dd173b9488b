/-! FRAMEWORK 16: the dynamic part grows -/
set_option maxRecDepth 100000
theorem ald_nI {f : Nat → Option Nat} {n k : Nat} (h : k < n) (hn : n < 2 ^ 31) : aldO f n (nI k) = some (f k) := by
  have := vp_in_nI h hn
  unfold aldO
  rw [if_neg this, nI_clamp (by omega)]
theorem ld_nI {f : Nat → Int32} {n k : Nat} (h : k < n) (hn : n < 2 ^ 31) : ldO f n (nI k) = some (f k) := by
  have := vp_in_nI h hn
  unfold ldO
  rw [if_neg this, nI_clamp (by omega)]
theorem AP.ofFA {D : dd_} {S : sp_} {ad : Nat → Nat} {I : Nat → Int32} {A : Nat → Nat → Int32} {R : Nat → Option Nat} {G : Nat → Nat → Option Nat} {Y : va_W} {base : Nat} (hI : Inj S ad) (h : FA (wl D S ad I A R G ++ Y) base) : AP S ad Y base := by
  have hl : (wl D S ad I A R G).length = (wl D S ad I A R G).length := rfl
  refine ⟨hI, fun i hi q hq e => ?_, ⟨fun i j a b ha hb z => ?_, fun k q hk => h.2 _ q (fl_at hk)⟩, fun i hi => ?_⟩
  · obtain ⟨z, hz, ez⟩ := wl_key (D := D) (S := S) (ad := ad) (I := I) (A := A) (R := R) (G := G) hi
    obtain ⟨k, hk⟩ := List.getElem?_of_mem hq
    obtain ⟨j, hj⟩ := List.getElem?_of_mem hz
    have h1 := h.1 _ _ _ _ (fl_at hk) (app_at hj) (e.trans ez.symm)
    have h2 := (List.getElem?_eq_some_iff.mp hj).1
    omega
  · have := h.1 _ _ _ _ (fl_at ha) (fl_at hb) z
    omega
  · obtain ⟨z, hz, ez⟩ := wl_key (D := D) (S := S) (ad := ad) (I := I) (A := A) (R := R) (G := G) hi
    obtain ⟨j, hj⟩ := List.getElem?_of_mem hz
    rw [← ez]
    exact h.2 _ _ (app_at hj)
section GR
variable {D : dd_} {own own' : Nat → Nat} {af : Nat → Nat → Nat} {ra : Nat → Nat × Nat} {ta : Nat × Nat} {Z : Dyn} {R : Nat → Option Nat} {G : Nat → Nat → Option Nat} {X X1 : va_W}
theorem Xt_grow {t : Nat} (ho : ∀ q ∈ X, own' q.1 = own q.1) (hX : ∀ q ∈ X, q ∈ X1) : ∀ q ∈ Xt own t X, q ∈ Xt own' t X1 := fun q hq => by
  obtain ⟨h1, h2⟩ := Xt_mem.mp hq
  exact Xt_mem.mpr ⟨hX q h1, by rw [ho q h1]; exact h2⟩
theorem XF.grow (h : XF D own af ra ta Z R G X) (ho : ∀ q ∈ X, own' q.1 = own q.1) (hX : ∀ q ∈ X, q ∈ X1) : XF D own' af ra ta Z R G X1 := by
  obtain ⟨a1, a2, a3, a4, a5, a6, a7⟩ := h
  refine ⟨fun k hk => ⟨(a1 k hk).1, fun P hP => ?_⟩, fun k hk => ⟨(a2 k hk).1, fun r hr => ?_⟩, ⟨Xt_grow ho hX _ a3.1, Xt_grow ho hX _ a3.2⟩, a4, a5, a6.mono (Xt_grow ho hX), fun q hq => Xt_grow ho hX q (a7 q hq)⟩
  · obtain ⟨c1, c2, c3, c4⟩ := (a1 k hk).2 P hP
    exact ⟨c1, c2, fun q hq => Xt_grow ho hX q (c3 q hq), c4.mono (Xt_grow ho hX)⟩
  · obtain ⟨c1, c2, c3, c4⟩ := (a2 k hk).2 r hr
    exact ⟨c1, c2, Xt_grow ho hX _ c3, Xt_grow ho hX _ c4⟩
/-- a slot gets a parish -/
theorem XF.put {k : Nat} {a1 : Nat → Nat} {P : Par} {G1 : Nat → Nat → Option Nat} (h : XF D own af ra ta Z R G X) (hg : ∀ j, j < 26 → gs G1 j = if j = k then some (a1 99) else gs G j) (hr : G1 100 = G 100) (hi : Inj pS a1) (hc : ∀ q ∈ pw D a1 P, q ∈ Xt own k X) (hR : RegX D (Xt own 400 X) P.2.2.1 P.2.2.2.1 P.2.2.2.2) : XF D own (va_up af k a1) ra ta (va_up Z.1 k (some P), Z.2) R G1 X := by
  obtain ⟨b1, b2, b3, b4, b5, b6, b7⟩ := h
  refine ⟨fun j hj => ?_, fun j hj => by rw [hr]; exact b2 j hj, b3, b4, b5, b6, b7⟩
  rw [hg j hj]
  by_cases e : j = k
  · subst e
    rw [if_pos rfl]
    have e1 : (va_up Z.1 j (some P), Z.2).1 j = some P := va_up_self _ _ _
    have e2 : va_up af j a1 j = a1 := va_up_self _ _ _
    rw [e1, e2]
    exact ⟨fun z => (nomatch z), fun P' z => (by cases z; exact ⟨rfl, hi, hc, hR⟩)⟩
  · rw [if_neg e]
    have e1 : (va_up Z.1 k (some P), Z.2).1 j = Z.1 j := va_up_ne _ _ e
    have e2 : va_up af k a1 j = af j := va_up_ne _ _ e
    rw [e1, e2]
    exact b1 j hj
end GR
/-- the addresses of a new parish -/
def pNew (b q0 q2 q3 q4 q5 q6 q7 q8 : Nat) : Nat → Nat := fun i => if i = 99 then b else if i = 0 then q0 else if i = 2 then q2 else if i = 3 then q3 else if i = 5 then q4 else if i = 6 then q5 else if i = 7 then q6 else if i = 8 then q7 else q8
def pCells (D : dd_) (de b q0 q1 q2 q3 q4 q5 q6 q7 q8 : Nat) : va_W := [(b, .inr (2, [.ref q0, .ref q1, .ref q2, .ref q3, .int 0, .ref q4, .ref q5, .ref q6, .ref q7, .ref q8, .int 0, .int 0])), (q0, .inl (D.2 .int, 6, .inl (fun _ => 0))), (q1, .inr (13, [.int 0, .ref de, .int 0])), (q2, .inl (D.2 .int, 5, .inl (fun _ => 0))), (q3, .inl (D.2 .int, 5, .inl (fun _ => 0))), (q4, .inl (D.2 .int, 8, .inl (fun _ => 0))), (q5, .inl (D.2 .int, 8, .inl (fun _ => 0))), (q6, .inl (D.2 .int, 8, .inl (fun _ => 0))), (q7, .inl (D.2 .int, 8, .inl (fun _ => 0))), (q8, .inl (D.2 .int, 8, .inl (fun _ => 0)))]
