/-! PLAIN LAW 11: scale, joined -/
set_option maxRecDepth 100000
section VIEW11
variable {v w u : Nat → Nat} {I I' : Nat → Int32} {A A' : Nat → Nat → Int32} {R : Nat → Option Nat} {G : Nat → Nat → Option Nat} {pl n : Nat} {ks : Nat → Nat}
theorem clr_x (J : Nat → Int32) (L : Int32) : ∃ B1, x_laySets_L14 J R G pl n ks L NF A' 0 = some (B1, 8) ∧ (∀ k, k < 8 → B1 115 k = 0) ∧ ∀ i, i ≠ 115 → B1 i = A' i := by
  have hr := lp_rel (fun k (s : (Nat → Nat → Int32) × Int32) => x_laySets_L14 J R G pl n ks L k s.1 s.2) (fun i s => s.2 = nI i ∧ (∀ k, k < i → s.1 115 k = 0) ∧ ∀ i, i ≠ 115 → s.1 i = A' i) 8 (fun r => r.2 = 8 ∧ (∀ k, k < 8 → r.1 115 k = 0) ∧ ∀ i, i ≠ 115 → r.1 i = A' i)
    (fun k s hs => by
      obtain ⟨C, x⟩ := s
      obtain ⟨rfl, h1, h2⟩ := hs
      exact ⟨(C, nI 8), rfl, rfl, h1, h2⟩)
    (fun k i s hi hs => by
      obtain ⟨C, x⟩ := s
      obtain ⟨rfl, h1, h2⟩ := hs
      have st : stO (C 115) 8 (nI i) 0 = _ := stN 0 rfl hi (by decide)
      refine Or.inl ⟨(va_up C 115 (upd (C 115) i 0), nI (i + 1)), ⟨rfl, fun k hk => ?_, fun j hj => (va_up_ne _ _ hj).trans (h2 j hj)⟩, ?_⟩
      · show upd (C 115) i 0 k = 0
        by_cases q : k = i
        · rw [q, upd_s]
        · rw [upd_n _ _ q]
          exact h1 k (by omega)
      · simp only [x_laySets_L14, st, o1]
        rw [if_neg (show ¬ (8 : Int32) ≤ nI i from nI_ge (b := 8) hi (by decide)), nI_1]) NF (A', 0) (NFb (by omega)) ⟨rfl, fun k hk => absurd hk (by omega), fun _ _ => rfl⟩
  obtain ⟨⟨B1, y⟩, g1, g2, g3⟩ := hr
  have g2 : y = 8 := g2
  subst g2
  exact ⟨B1, g1, g3⟩
theorem clr_m (a b c d : Int32) : ∃ B1, m_scale_L46 a b c d NF I A 0 = some (I, B1, 8) ∧ (∀ k, k < 8 → B1 15 k = 0) ∧ ∀ i, i ≠ 15 → B1 i = A i := by
  have hr := lp_rel (fun k (s : (Nat → Int32) × (Nat → Nat → Int32) × Int32) => m_scale_L46 a b c d k s.1 s.2.1 s.2.2) (fun i s => s.1 = I ∧ s.2.2 = nI i ∧ (∀ k, k < i → s.2.1 15 k = 0) ∧ ∀ i, i ≠ 15 → s.2.1 i = A i) 8 (fun r => r.1 = I ∧ r.2.2 = 8 ∧ (∀ k, k < 8 → r.2.1 15 k = 0) ∧ ∀ i, i ≠ 15 → r.2.1 i = A i)
    (fun k s hs => by
      obtain ⟨J, C, x⟩ := s
      obtain ⟨rfl, rfl, h1, h2⟩ := hs
      exact ⟨(J, C, nI 8), rfl, rfl, rfl, h1, h2⟩)
    (fun k i s hi hs => by
      obtain ⟨J, C, x⟩ := s
      obtain ⟨rfl, rfl, h1, h2⟩ := hs
      have st : stO (C 15) 8 (nI i) 0 = _ := stN 0 rfl hi (by decide)
      refine Or.inl ⟨(J, va_up C 15 (upd (C 15) i 0), nI (i + 1)), ⟨rfl, rfl, fun k hk => ?_, fun j hj => (va_up_ne _ _ hj).trans (h2 j hj)⟩, ?_⟩
      · show upd (C 15) i 0 k = 0
        by_cases q : k = i
        · rw [q, upd_s]
        · rw [upd_n _ _ q]
          exact h1 k (by omega)
      · simp only [m_scale_L46, st, o1]
        rw [if_neg (show ¬ (8 : Int32) ≤ nI i from nI_ge (b := 8) hi (by decide)), nI_1]) NF (I, A, 0) (NFb (by omega)) ⟨rfl, rfl, fun k hk => absurd hk (by omega), fun _ _ => rfl⟩
  obtain ⟨⟨J, B1, y⟩, g1, rfl, g2, g3⟩ := hr
  have g2 : y = 8 := g2
  subst g2
  exact ⟨B1, g1, g3⟩
theorem sets_x (hc : CV v (sh 200 I') (sh 200 A') n ks) (h : OKv v) {L : Nat} (hL : L < 2 ^ 31) : ∃ J B, x_laySets I' A' R G pl n ks (nI L) = some (J, B) ∧ J 114 = nI (cnt v L (2 ^ v 7)) ∧ J 116 = wI (lst v L (2 ^ v 7)) ∧ (∀ k, k < 8 → B 115 k = nI (hvg v L (2 ^ v 7) k)) ∧ (∀ i, i ≠ 114 → i ≠ 116 → J i = I' i) ∧ ∀ i, i ≠ 115 → B i = A' i := by
  have h7 := v_m h
  have p8 : 2 ^ v 7 ≤ 2 ^ 8 := Nat.pow_le_pow_right (by decide) h7
  obtain ⟨B0, b1, b2, b3⟩ := clr_x (A' := A') (R := R) (G := G) (pl := pl) (n := n) (ks := ks) (upd (upd I' 114 0) 116 (-1000000)) (nI L)
  have cvq : ∀ (J : Nat → Int32) (B : Nat → Nat → Int32), (∀ i, i ≠ 114 → i ≠ 116 → J i = I' i) → (∀ i, i ≠ 115 → B i = A' i) → CV v (sh 200 J) (sh 200 B) n ks := fun J B q1 q2 => KC_cv (I := I') (A := A') (R := R) (R1 := R) (fun i _ h2 => ⟨q1 i (by omega) (by omega), q2 i (by omega), rfl⟩) hc
  have hr := lp_rel (fun k (s : (Nat → Int32) × (Nat → Nat → Int32) × Int32) => x_laySets_L35 R G pl n ks (nI L) k s.1 s.2.1 s.2.2) (fun t s => s.2.2 = nI t ∧ s.1 114 = nI (cnt v L t) ∧ s.1 116 = wI (lst v L t) ∧ (∀ k, k < 8 → s.2.1 115 k = nI (hvg v L t k)) ∧ (∀ i, i ≠ 114 → i ≠ 116 → s.1 i = I' i) ∧ ∀ i, i ≠ 115 → s.2.1 i = A' i) (2 ^ v 7) (fun s => s.1 114 = nI (cnt v L (2 ^ v 7)) ∧ s.1 116 = wI (lst v L (2 ^ v 7)) ∧ (∀ k, k < 8 → s.2.1 115 k = nI (hvg v L (2 ^ v 7) k)) ∧ (∀ i, i ≠ 114 → i ≠ 116 → s.1 i = I' i) ∧ ∀ i, i ≠ 115 → s.2.1 i = A' i)
    (fun k s hs => by
      obtain ⟨J, B, x⟩ := s
      obtain ⟨rfl, g1, g2, g3, g4, g5⟩ := hs
      have z4 : J 204 = nI (v 7) := (cvq J B g4 g5).1.2.2.1
      refine ⟨(J, B, nI (2 ^ v 7)), ?_, g1, g2, g3, g4, g5⟩
      simp only [x_laySets_L35, z4, shl_1 (v 7) (by omega)]
      rw [if_pos (nI_le (Nat.le_refl _) (by omega))])
    (fun k t s ht hs => by
      obtain ⟨J, B, x⟩ := s
      obtain ⟨rfl, g1, g2, g3, g4, g5⟩ := hs
      have g1 : J 114 = nI (cnt v L t) := g1
      have g2 : J 116 = wI (lst v L t) := g2
      have g4 : ∀ i, i ≠ 114 → i ≠ 116 → J i = I' i := g4
      have g5 : ∀ i, i ≠ 115 → B i = A' i := g5
      have cv := cvq J B g4 g5
      have z4 : J 204 = nI (v 7) := cv.1.2.2.1
      have cl := cnt_le (v := v) L t
      have sm := scale_sx (R := R) (G := G) (pl := pl) cv h (nI L) (show t < 256 by omega)
      have wl := wsm_le h t
      have c1 : (nI (wsm v t) = nI L) = _ := eqL L (by omega) hL
      have c0 : (nI (cnt v L t) = (0 : Int32)) = _ := z0 (a := cnt v L t) (by omega)
      by_cases q : wsm v t = L
      · have hh := scale_hx (v := v) (R := R) (G := G) (pl := pl) (n := n) (ks := ks) (upd (upd J 116 (wI (lst v L (t + 1)))) 114 (nI (cnt v L t + 1))) z4 h (nI L) ht B (hvg v L t) g3
        obtain ⟨B1, y, q1, q2, q3⟩ := hh
        have lv : (if cnt v L t = 0 then nI t else wI (lst v L t)) = wI (lst v L (t + 1)) := by
          show _ = wI (if wsm v t = L then (if cnt v L t = 0 then some t else lst v L t) else lst v L t)
          rw [if_pos q]
          by_cases q0 : cnt v L t = 0
          · rw [if_pos q0, if_pos q0]; rfl
          · rw [if_neg q0, if_neg q0]
        refine Or.inl ⟨(upd (upd J 116 (wI (lst v L (t + 1)))) 114 (nI (cnt v L t + 1)), B1, nI (t + 1)), ⟨rfl, ?_, rfl, fun k hk => ?_, fun i h1 h2 => ?_, fun i hi => (q3 i hi).trans (g5 i hi)⟩, ?_⟩
        · show nI (cnt v L t + 1) = nI (if wsm v t = L then cnt v L t + 1 else cnt v L t)
          rw [if_pos q]
        · show B1 115 k = nI ((if wsm v t = L then (fun k => hvg v L t k + t / 2 ^ k % 2) else hvg v L t) k)
          rw [if_pos q]
          exact q2 k hk
        · show upd (upd J 116 _) 114 _ i = I' i
          rw [upd_n _ _ h1, upd_n _ _ h2]
          exact g4 i h1 h2
        · simp only [x_laySets_L35, z4, shl_1 (v 7) (show v 7 < 10 by omega), sm, o2, c1, g1, c0, g2, ife, lv, o1, upd_n J (i := 114) (k := 116) _ (by decide), nI_1, q1]
          rw [if_neg (nI_ge ht (by omega)), if_pos q, o2]
      · refine Or.inl ⟨(J, B, nI (t + 1)), ⟨rfl, ?_, ?_, fun k hk => ?_, g4, g5⟩, ?_⟩
        · show J 114 = nI (if wsm v t = L then cnt v L t + 1 else cnt v L t)
          rw [if_neg q]; exact g1
        · show J 116 = wI (if wsm v t = L then (if cnt v L t = 0 then some t else lst v L t) else lst v L t)
          rw [if_neg q]; exact g2
        · show B 115 k = nI ((if wsm v t = L then (fun k => hvg v L t k + t / 2 ^ k % 2) else hvg v L t) k)
          rw [if_neg q]; exact g3 k hk
        · simp only [x_laySets_L35, z4, shl_1 (v 7) (show v 7 < 10 by omega), sm, o2, c1]
          rw [if_neg (nI_ge ht (by omega)), if_neg q, o2, nI_1]) NF (upd (upd I' 114 0) 116 (-1000000), B0, 0) (NFb (by omega)) ⟨rfl, rfl, rfl, fun k hk => b2 k hk, fun i h1 h2 => by
            show upd (upd I' 114 0) 116 _ i = I' i
            rw [upd_n _ _ h2, upd_n _ _ h1], b3⟩
  obtain ⟨⟨J, B, x⟩, g1, g2⟩ := hr
  have g1 : x_laySets_L35 R G pl n ks (nI L) NF (upd (upd I' 114 0) 116 (-1000000)) B0 0 = _ := g1
  exact ⟨J, B, by simp only [x_laySets, b1, o2, g1, o3], g2⟩
theorem sets_m (hw : MW v (A 0)) (h : OKv v) {L : Nat} (hL : L < 2 ^ 31) (z : Int32) : ∃ B0 B y, m_scale_L46 (nI L) z 0 (-1000000) NF I A 0 = some (I, B0, 8) ∧ m_scale_L70 (nI L) z NF I B0 0 (-1000000) 0 = some (I, B, nI (cnt v L (2 ^ v 7)), wI (lst v L (2 ^ v 7)), y) ∧ (∀ k, k < 8 → B 15 k = nI (hvg v L (2 ^ v 7) k)) ∧ ∀ i, i ≠ 15 → B i = A i := by
  have h7 := v_m h
  have p8 : 2 ^ v 7 ≤ 2 ^ 8 := Nat.pow_le_pow_right (by decide) h7
  obtain ⟨B0, b1, b2, b3⟩ := clr_m (I := I) (A := A) (nI L) z 0 (-1000000)
  have hr := lp_rel (fun k (s : (Nat → Int32) × (Nat → Nat → Int32) × Int32 × Int32 × Int32) => m_scale_L70 (nI L) z k s.1 s.2.1 s.2.2.1 s.2.2.2.1 s.2.2.2.2) (fun t s => s.1 = I ∧ s.2.2 = (nI (cnt v L t), wI (lst v L t), nI t) ∧ (∀ k, k < 8 → s.2.1 15 k = nI (hvg v L t k)) ∧ ∀ i, i ≠ 15 → s.2.1 i = A i) (2 ^ v 7) (fun s => s.1 = I ∧ s.2.2 = (nI (cnt v L (2 ^ v 7)), wI (lst v L (2 ^ v 7)), nI (2 ^ v 7)) ∧ (∀ k, k < 8 → s.2.1 15 k = nI (hvg v L (2 ^ v 7) k)) ∧ ∀ i, i ≠ 15 → s.2.1 i = A i)
    (fun k s hs => by
      obtain ⟨J, B, x⟩ := s
      obtain ⟨rfl, rfl, g3, g5⟩ := hs
      have g5 : ∀ i, i ≠ 15 → B i = A i := g5
      have e7 : ldO (B 0) 2044 7 = _ := ldW (by rw [g5 0 (by decide)]; exact hw) 7 rfl (by decide)
      refine ⟨(J, B, nI (cnt v L (2 ^ v 7)), wI (lst v L (2 ^ v 7)), nI (2 ^ v 7)), ?_, rfl, rfl, g3, g5⟩
      simp only [m_scale_L70, e7, o1, shl_1 (v 7) (show v 7 < 10 by omega)]
      rw [if_pos (nI_le (Nat.le_refl _) (by omega))])
    (fun k t s ht hs => by
      obtain ⟨J, B, x⟩ := s
      obtain ⟨rfl, rfl, g3, g5⟩ := hs
      have g5 : ∀ i, i ≠ 15 → B i = A i := g5
      have hwB : MW v (B 0) := by rw [g5 0 (by decide)]; exact hw
      have e7 : ldO (B 0) 2044 7 = _ := ldW hwB 7 rfl (by decide)
      have cl := cnt_le (v := v) L t
      have sm := fun c d => scale_sm (I := J) hwB h (nI L) z c d (show t < 256 by omega)
      have wl := wsm_le h t
      have c1 : (nI (wsm v t) = nI L) = _ := eqL L (by omega) hL
      have c0 : (nI (cnt v L t) = (0 : Int32)) = _ := z0 (a := cnt v L t) (by omega)
      by_cases q : wsm v t = L
      · have hh := fun c d => scale_hm (I := J) hwB h (nI L) z c d ht (hvg v L t) g3
        obtain ⟨B1, y, q1, q2, q3⟩ := hh (nI (cnt v L t + 1)) (wI (lst v L (t + 1)))
        have lv : (if cnt v L t = 0 then nI t else wI (lst v L t)) = wI (lst v L (t + 1)) := by
          show _ = wI (if wsm v t = L then (if cnt v L t = 0 then some t else lst v L t) else lst v L t)
          rw [if_pos q]
          by_cases q0 : cnt v L t = 0
          · rw [if_pos q0, if_pos q0]; rfl
          · rw [if_neg q0, if_neg q0]
        have cs : cnt v L (t + 1) = cnt v L t + 1 := by
          show (if wsm v t = L then cnt v L t + 1 else cnt v L t) = _
          rw [if_pos q]
        refine Or.inl ⟨(J, B1, nI (cnt v L t + 1), wI (lst v L (t + 1)), nI (t + 1)), ⟨rfl, by rw [cs], fun k hk => ?_, fun i hi => (q3 i hi).trans (g5 i hi)⟩, ?_⟩
        · show B1 15 k = nI ((if wsm v t = L then (fun k => hvg v L t k + t / 2 ^ k % 2) else hvg v L t) k)
          rw [if_pos q]
          exact q2 k hk
        · simp only [m_scale_L70, e7, o1, shl_1 (v 7) (show v 7 < 10 by omega), sm, o2, c1, c0, ife, lv, nI_1, q1, o3]
          rw [if_neg (nI_ge ht (by omega)), if_pos q, o4]
      · refine Or.inl ⟨(J, B, nI (cnt v L t), wI (lst v L t), nI (t + 1)), ⟨rfl, ?_, fun k hk => ?_, g5⟩, ?_⟩
        · show _ = (nI (if wsm v t = L then cnt v L t + 1 else cnt v L t), wI (if wsm v t = L then (if cnt v L t = 0 then some t else lst v L t) else lst v L t), _)
          rw [if_neg q, if_neg q]
        · show B 15 k = nI ((if wsm v t = L then (fun k => hvg v L t k + t / 2 ^ k % 2) else hvg v L t) k)
          rw [if_neg q]; exact g3 k hk
        · simp only [m_scale_L70, e7, o1, shl_1 (v 7) (show v 7 < 10 by omega), sm, o2, c1]
          rw [if_neg (nI_ge ht (by omega)), if_neg q, o4, nI_1]) NF (I, B0, 0, -1000000, 0) (NFb (by omega)) ⟨rfl, rfl, fun k hk => b2 k hk, b3⟩
  obtain ⟨⟨J, B, x⟩, g1, rfl, g2, g3, g4⟩ := hr
  have g2 : x = _ := g2
  subst g2
  exact ⟨B0, B, _, b1, g1, g3, g4⟩
def nxt (v : Nat → Nat) (L : Nat) : Int32 := if cnt v L (2 ^ v 7) = 0 ∨ v 7 = 0 then -1000000 else nI (fA (fun k => dst (hvg v L (2 ^ v 7) k) (cnt v L (2 ^ v 7))) (v 7 - 1))
theorem next_x (h : OKv v) (L : Nat) (z4 : I' 204 = nI (v 7)) (z114 : I' 114 = nI (cnt v L (2 ^ v 7))) (hg : ∀ k, k < 8 → A' 115 k = nI (hvg v L (2 ^ v 7) k)) : x_nextOf I' A' R G pl n ks = some (nxt v L) := by
  have h7 := v_m h
  have p8 : 2 ^ v 7 ≤ 2 ^ 8 := Nat.pow_le_pow_right (by decide) h7
  have cl := cnt_le (v := v) L (2 ^ v 7)
  have c0 : (nI (cnt v L (2 ^ v 7)) = (0 : Int32)) = _ := z0 (a := cnt v L (2 ^ v 7)) (by omega)
  have c7 : (nI (v 7) = (0 : Int32)) = _ := z0 (a := v 7) (by omega)
  by_cases q7 : v 7 = 0
  · have hk0 : ∀ k, x_nextOf_L4 I' A' R G pl n ks (k + 1) 0 1 = some (0, 1) := fun k => by
      simp only [x_nextOf_L4, z4]
      rw [if_pos (show nI (v 7) ≤ 1 by rw [q7]; decide)]
    have hr : x_nextOf_L4 I' A' R G pl n ks NF 0 1 = some (0, 1) := hk0 999999
    simp only [x_nextOf, hr, o2, z4, z114, c0, c7, nxt]
    by_cases q : cnt v L (2 ^ v 7) = 0
    · rw [if_pos q, if_pos (Or.inl q), o1]
    · rw [if_neg q, if_pos q7, if_pos (Or.inr q7), o1]
  · have hr := lp_run (fun k (s : Int32 × Int32) => x_nextOf_L4 I' A' R G pl n ks k s.1 s.2) (fun i => (nI (fA (fun k => dst (hvg v L (2 ^ v 7) k) (cnt v L (2 ^ v 7))) i), nI (i + 1))) (v 7 - 1) (some (nI (fA (fun k => dst (hvg v L (2 ^ v 7) k) (cnt v L (2 ^ v 7))) (v 7 - 1)), nI (v 7)))
      (fun k => by
        simp only [x_nextOf_L4, z4]
        rw [show v 7 - 1 + 1 = v 7 by omega, if_pos (nI_le (Nat.le_refl _) (by omega))])
      (fun k i hi => by
        have fl := (fA_p (fun k => dst (hvg v L (2 ^ v 7) k) (cnt v L (2 ^ v 7))) i).1
        have e1 : ldO (A' 115) 8 (nI (i + 1)) = _ := ldN rfl (show i + 1 < 8 by omega) (by decide) (hg (i + 1) (by omega))
        have e2 : ldO (A' 115) 8 (nI (fA (fun k => dst (hvg v L (2 ^ v 7) k) (cnt v L (2 ^ v 7))) i)) = _ := ldN rfl (by omega) (by decide) (hg _ (by omega))
        have l1 := hvg_le (v := v) L (2 ^ v 7) (i + 1)
        have l2 := hvg_le (v := v) L (2 ^ v 7) (fA (fun k => dst (hvg v L (2 ^ v 7) k) (cnt v L (2 ^ v 7))) i)
        have d1 := dst_le (h := hvg v L (2 ^ v 7) (i + 1)) (s := cnt v L (2 ^ v 7)) (by omega) (by omega)
        have d2 := dst_le (h := hvg v L (2 ^ v 7) (fA (fun k => dst (hvg v L (2 ^ v 7) k) (cnt v L (2 ^ v 7))) i)) (s := cnt v L (2 ^ v 7)) (by omega) (by omega)
        have cc : (nI (dst (hvg v L (2 ^ v 7) (fA (fun k => dst (hvg v L (2 ^ v 7) k) (cnt v L (2 ^ v 7))) i)) (cnt v L (2 ^ v 7))) ≤ nI (dst (hvg v L (2 ^ v 7) (i + 1)) (cnt v L (2 ^ v 7)))) = _ := leL (by omega) (by omega)
        simp only [x_nextOf_L4, z4, e1, e2, o1, z114, ife]
        rw [if_neg (nI_ge (a := i + 1) (by omega) (by omega)), nI_1, ab_d (by omega) (by omega), ab_d (by omega) (by omega), fA_s]
        by_cases q : dst (hvg v L (2 ^ v 7) (fA (fun k => dst (hvg v L (2 ^ v 7) k) (cnt v L (2 ^ v 7))) i)) (cnt v L (2 ^ v 7)) ≤ dst (hvg v L (2 ^ v 7) (i + 1)) (cnt v L (2 ^ v 7))
        · rw [if_pos (cc ▸ q), if_pos q]
        · rw [if_neg (fun z => q (cc ▸ z)), if_neg q]) NF (NFb (by omega))
    have hr : x_nextOf_L4 I' A' R G pl n ks NF 0 1 = _ := hr
    simp only [x_nextOf, hr, o2, z4, z114, c0, c7, nxt]
    by_cases q : cnt v L (2 ^ v 7) = 0
    · rw [if_pos q, if_pos (Or.inl q), o1]
    · rw [if_neg q, if_neg q7, if_neg (fun z => z.elim q q7), o1]
end VIEW11
