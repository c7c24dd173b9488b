/-! PLAIN LAW 12: scale's end, count -/
set_option maxRecDepth 100000
theorem sb1 {a : Nat} (h : 1 ≤ a) : nI a + (-1) = nI (a - 1) := by
  have : nI a - nI 1 = nI (a - 1) := pk_sub h
  rw [← this]
  apply Int32.toBitVec_inj.mp
  simp [BitVec.sub_eq_add_neg]
  rfl
theorem ltz {a : Nat} (h : a < 2 ^ 31) : ¬ nI a < 0 := by
  have := ltL (a := a) (b := 0) h (by decide)
  intro z
  have z : nI a < nI 0 := z
  rw [this] at z
  omega
section VIEW12
variable {v w u : Nat → Nat} {I I' : Nat → Int32} {A A' : Nat → Nat → Int32} {R : Nat → Option Nat} {G : Nat → Nat → Option Nat} {pl n : Nat} {ks : Nat → Nat}
theorem next_m (h : OKv v) (L : Nat) (z x : Int32) (hg : ∀ k, k < 8 → A 15 k = nI (hvg v L (2 ^ v 7) k)) : ∃ y, m_scale_L226 I A z (nI (cnt v L (2 ^ v 7))) x NF (-1000000) (nI (v 7) - 1) = some (nxt v L, y) := by
  have h7 := v_m h
  have p8 : 2 ^ v 7 ≤ 2 ^ 8 := Nat.pow_le_pow_right (by decide) h7
  have cl := cnt_le (v := v) L (2 ^ v 7)
  by_cases q7 : v 7 = 0
  · refine ⟨nI (v 7) - 1, ?_⟩
    have : ∀ k, m_scale_L226 I A z (nI (cnt v L (2 ^ v 7))) x (k + 1) (-1000000) (nI (v 7) - 1) = some (nxt v L, nI (v 7) - 1) := fun k => by
      simp only [m_scale_L226]
      rw [if_pos (show nI (v 7) - 1 < 0 by rw [q7]; decide)]
      unfold nxt
      rw [if_pos (Or.inr q7)]
    exact this 999999
  · have m1 : nI (v 7) - 1 = nI (v 7 - 1) := pk_sub (b := 1) (by omega)
    rw [m1]
    by_cases q0 : cnt v L (2 ^ v 7) = 0
    · refine ⟨nI (v 7 - 1), ?_⟩
      have : ∀ k, m_scale_L226 I A z (nI (cnt v L (2 ^ v 7))) x (k + 1) (-1000000) (nI (v 7 - 1)) = some (nxt v L, nI (v 7 - 1)) := fun k => by
        simp only [m_scale_L226]
        rw [if_neg (ltz (by omega)), if_pos (show nI (cnt v L (2 ^ v 7)) ≤ 0 by rw [q0]; decide)]
        unfold nxt
        rw [if_pos (Or.inl q0)]
      exact this 999999
    · let d : Nat → Nat := fun k => dst (hvg v L (2 ^ v 7) k) (cnt v L (2 ^ v 7))
      have cp : ¬ nI (cnt v L (2 ^ v 7)) ≤ 0 := nI_ge (a := 0) (by omega) (by omega)
      have first : ∀ k, m_scale_L226 I A z (nI (cnt v L (2 ^ v 7))) x (k + 1) (-1000000) (nI (v 7 - 1)) = m_scale_L226 I A z (nI (cnt v L (2 ^ v 7))) x k (nI (v 7 - 1)) (nI (v 7 - 1) + (-1)) := fun k => by
        simp only [m_scale_L226]
        rw [if_neg (ltz (by omega)), if_neg cp, if_pos trivial, o1]
      have hr := lp_run (fun k (s : Int32 × Int32) => m_scale_L226 I A z (nI (cnt v L (2 ^ v 7))) x k s.1 s.2) (fun j => (nI (gB d (v 7 - 1) j), nI (v 7 - 1 - j) + (-1))) (v 7 - 1) (some (nI (gB d (v 7 - 1) (v 7 - 1)), -1))
        (fun k => by
          rw [Nat.sub_self]
          simp only [m_scale_L226]
          rw [if_pos (show nI 0 + (-1) < 0 by decide)]
          rfl)
        (fun k j hj => by
          have gl := gB_p d (v 7 - 1) j (by omega)
          have e1 : ldO (A 15) 8 (nI (v 7 - 1 - (j + 1))) = _ := ldN rfl (show v 7 - 1 - (j + 1) < 8 by omega) (by decide) (hg _ (by omega))
          have e2 : ldO (A 15) 8 (nI (gB d (v 7 - 1) j)) = _ := ldN rfl (show gB d (v 7 - 1) j < 8 by omega) (by decide) (hg _ (by omega))
          have l1 := hvg_le (v := v) L (2 ^ v 7) (v 7 - 1 - (j + 1))
          have l2 := hvg_le (v := v) L (2 ^ v 7) (gB d (v 7 - 1) j)
          have d1 : d (v 7 - 1 - (j + 1)) < 5000 := dst_le (by omega) (by omega)
          have d2 : d (gB d (v 7 - 1) j) < 5000 := dst_le (by omega) (by omega)
          have cc : (nI (d (gB d (v 7 - 1) j)) < nI (d (v 7 - 1 - (j + 1)))) = _ := ltL (by omega) (by omega)
          have a1 : nI (v 7 - 1 - j) + (-1) = nI (v 7 - 1 - (j + 1)) := by
            rw [sb1 (by omega)]
            rfl
          have p1 : m_plain (2 * nI (hvg v L (2 ^ v 7) (v 7 - 1 - (j + 1))) - nI (cnt v L (2 ^ v 7))) = some (nI (d (v 7 - 1 - (j + 1)))) := pl_d (by omega) (by omega)
          have p2 : m_plain (2 * nI (hvg v L (2 ^ v 7) (gB d (v 7 - 1) j)) - nI (cnt v L (2 ^ v 7))) = some (nI (d (gB d (v 7 - 1) j))) := pl_d (by omega) (by omega)
          simp only [a1]
          simp only [m_scale_L226, e1, e2, o1, p1, p2, ife]
          rw [if_neg (ltz (by omega)), if_neg cp, if_neg (nOf (by omega)), gB_s]
          by_cases q : d (gB d (v 7 - 1) j) < d (v 7 - 1 - (j + 1))
          · rw [if_pos (cc ▸ q), if_pos q]
          · rw [if_neg (fun z => q (cc ▸ z)), if_neg q]) 999999 (by omega)
      refine ⟨-1, ?_⟩
      rw [show NF = 999999 + 1 from rfl, first]
      refine Eq.trans hr ?_
      unfold nxt
      rw [if_neg (fun z => z.elim q0 q7), fA_gB]
theorem eq_scale (hw : MW v (A 0)) (h : OKv v) (hc : CV v (sh 200 I') (sh 200 A') n ks) (hR : R 201 = some pl) (a b : Int32) : ∃ r I1' A1' I1 A1, x_scale I' A' R G pl n ks a b = some (r, I1', A1') ∧ m_scale I A a b = some (r, I1, A1) ∧ KC I' I1' A' A1' R R ∧ KM I I1 A A1 := by
  have h7 := v_m h
  have e1 := none_m (I := I) hw h
  have e2 := parish_x (G := G) hc hR h
  by_cases c : v 6 = 0
  · rw [if_pos c] at e1 e2
    exact ⟨_, _, _, _, _, by simp only [x_scale, e2, o1, n00, if_true] <;> rfl, by simp only [m_scale, e1, o1, n10, if_false] <;> rfl, KC.rfl', KM.rfl'⟩
  rw [if_neg c] at e1 e2
  rcases in_ab a (L := 0) (H := 200) 0 200 rfl rfl (by decide) with h1 | ⟨L, -, hL, rfl, h1⟩
  · exact ⟨_, _, _, _, _, by simp only [x_scale, e2, o1, n10, if_false, h1, n00, if_true] <;> rfl, by simp only [m_scale, e1, o1, n00, if_true, m_in_x, h1] <;> rfl, KC.rfl', KM.rfl'⟩
  rcases in_ab b (L := 0) (H := 2) 0 2 rfl rfl (by decide) with h2 | ⟨z, -, hz, rfl, h2⟩
  · exact ⟨_, _, _, _, _, by simp only [x_scale, e2, o1, n10, if_false, h1, h2, n00, if_true] <;> rfl, by simp only [m_scale, e1, o1, n00, n10, if_true, if_false, m_in_x, h1, h2] <;> rfl, KC.rfl', KM.rfl'⟩
  obtain ⟨J, B, x1, x2, x3, x4, x5, x6⟩ := sets_x (R := R) (G := G) (pl := pl) hc h (show L < 2 ^ 31 by omega)
  obtain ⟨B0, C, y, m1, m2, m3, m4⟩ := sets_m (I := I) hw h (show L < 2 ^ 31 by omega) (nI z)
  have kc : KC I' J A' B R R := fun i _ h2 => ⟨x5 i (by omega) (by omega), x6 i (by omega), rfl⟩
  have z4 : J 204 = nI (v 7) := (KC_cv kc hc).1.2.2.1
  have nx := next_x (R := R) (G := G) (pl := pl) (n := n) (ks := ks) h L z4 x2 x4
  obtain ⟨y2, nm⟩ := next_m (I := I) h L (nI z) (wI (lst v L (2 ^ v 7))) m3
  have e7 : ldO (C 0) 2044 7 = _ := ldW (by rw [m4 0 (by decide)]; exact hw) 7 rfl (by decide)
  have km : KM I I A C := ⟨fun _ => rfl, fun k => by rw [m4 0 (by decide)], fun i h0 h15 => m4 i (by omega)⟩
  refine ⟨if nI z = 0 then nI (cnt v L (2 ^ v 7)) else if nI z = 1 then wI (lst v L (2 ^ v 7)) else nxt v L, J, B, I, C, ?_, ?_, kc, km⟩
  · simp only [x_scale, e2, o1, n10, if_false, h1, h2, x1, o2, x2, x3, nx, ife]
  · simp only [m_scale, e1, o1, n00, n10, if_true, if_false, m_in_x, h1, h2, m1, o3, m2, o5, e7, nm, o2, ife]
/-- how many rows there are -/
theorem rows_eq (hG : ∀ k, k < 8 → (G 100 k = none ↔ ¬ 0 ≤ A 3 k)) : ∃ r, x_count_L50 I' A' R G pl n ks NF 0 0 = some (r, 8) ∧ m_rowsMany_L4 I A NF 0 0 = some (r, 8) := by
  let f : Nat → Nat := fun k => if 0 ≤ A 3 k then 1 else 0
  refine ⟨nI (sumN f 8), ?_, ?_⟩
  · exact lp_run (fun k (s : Int32 × Int32) => x_count_L50 I' A' R G pl n ks k s.1 s.2) (fun i => (nI (sumN f i), nI i)) 8 (some (nI (sumN f 8), 8))
      (fun k => rfl)
      (fun k i hi => by
        have e : aldO (G 100) 8 (nI i) = some (G 100 i) := by
          have := vp_in_nI hi (show 8 < 2 ^ 31 by decide)
          unfold aldO
          rw [if_neg this, nI_clamp (by omega)]
        simp only [x_count_L50, e, o1, ife]
        rw [if_neg (show ¬ (8 : Int32) ≤ nI i from nI_ge (b := 8) hi (by decide)), nI_1, sumN, ← nI_add (sumN f i)]
        have : (if G 100 i = none then (0 : Int32) else 1) = nI (f i) := by
          show _ = nI (if 0 ≤ A 3 i then 1 else 0)
          by_cases q : 0 ≤ A 3 i
          · rw [if_pos q, if_neg (fun z => (hG i hi).mp z q)]; rfl
          · rw [if_neg q, if_pos ((hG i hi).mpr q)]; rfl
        rw [this]) NF (NFb (by omega))
  · exact lp_run (fun k (s : Int32 × Int32) => m_rowsMany_L4 I A k s.1 s.2) (fun i => (nI (sumN f i), nI i)) 8 (some (nI (sumN f 8), 8))
      (fun k => rfl)
      (fun k i hi => by
        have e : ldO (A 3) 8 (nI i) = some (A 3 i) := ldN rfl hi (by decide) rfl
        simp only [m_rowsMany_L4, e, o1, ife]
        rw [if_neg (show ¬ (8 : Int32) ≤ nI i from nI_ge (b := 8) hi (by decide)), nI_1, sumN, ← nI_add (sumN f i)]
        have : (if 0 ≤ A 3 i then (1 : Int32) else 0) = nI (f i) := by
          show _ = nI (if 0 ≤ A 3 i then 1 else 0)
          by_cases q : 0 ≤ A 3 i
          · rw [if_pos q, if_pos q]; rfl
          · rw [if_neg q, if_neg q]; rfl
        rw [this]) NF (NFb (by omega))
theorem kept_m (hw : MW v (A 0)) (h : OKv v) : m_keptMany I A = some (nI (popc (kmask v))) := by
  have h7 := v_m h
  have e7 : ldO (A 0) 2044 7 = _ := ldW hw 7 rfl (by decide)
  have hr := lp_run (fun k (s : Int32 × Int32) => m_keptMany_L4 I A k s.1 s.2) (fun i => (nI (sumN (fun k => v (65 + k)) i), nI i)) (v 7) (some (nI (sumN (fun k => v (65 + k)) (v 7)), nI (v 7)))
    (fun k => by
      simp only [m_keptMany_L4, e7, o1]
      rw [if_pos (nI_le (Nat.le_refl _) (by omega))])
    (fun k i hi => by
      have e65 : ldO (A 0) 2044 (65 + nI i) = _ := ldW hw (65 + i) (nI_add 65 i) (by omega)
      simp only [m_keptMany_L4, e7, o1, e65, nI_add]
      rw [if_neg (nI_ge hi (by omega)), nI_1, sumN]) NF (NFb (by omega))
  have hr : m_keptMany_L4 I A NF 0 0 = _ := hr
  have tail : ∀ d, v 7 + d ≤ 8 → sumN (fun k => v (65 + k)) (v 7 + d) = sumN (fun k => v (65 + k)) (v 7) := by
    intro d
    induction d with
    | zero => intro _; rfl
    | succ d ih =>
      intro hd
      rw [← Nat.add_assoc, sumN, ih (by omega), h.2.2.2.2.2.2 (v 7 + d) (by omega) (by omega), Nat.add_zero]
  have t8 := tail (8 - v 7) (by omega)
  rw [show v 7 + (8 - v 7) = 8 by omega] at t8
  have : sumN (fun k => v (65 + k)) 8 = popc (kmask v) := by
    rw [kmask_p h]
    show 0 + v 65 + v 66 + v 67 + v 68 + v 69 + v 70 + v 71 + v 72 = _
    omega
  simp only [m_keptMany, hr, o2, ← t8, this]
theorem eq_count (hw : MW v (A 0)) (h : OKv v) (hc : CV v (sh 200 I') (sh 200 A') n ks) (hR : R 201 = some pl) (hG : ∀ k, k < 8 → (G 100 k = none ↔ ¬ 0 ≤ A 3 k)) (h1 : I' 107 = I 1) (h9 : I' 102 = I 9) (a : Int32) : ∃ r, x_count I' A' R G pl n ks a = some r ∧ m_count I A a = some r := by
  obtain ⟨r0, x0, m0⟩ := rows_eq (I := I) (I' := I') (A' := A') (R := R) (pl := pl) (n := n) (ks := ks) hG
  have many := many_p (R := sh 200 R) hc hR
  have e6 : ldO (A 0) 2044 6 = _ := ldW hw 6 rfl (by decide)
  have e7 : ldO (A 0) 2044 7 = _ := ldW hw 7 rfl (by decide)
  have e8 : ldO (A 0) 2044 8 = _ := ldW hw 8 rfl (by decide)
  have z4 : I' 204 = nI (v 7) := hc.1.2.2.1
  have z10 : I' 210 = nI (kmask v) := hc.1.2.2.2.1
  have z11 : I' 211 = nI (v 8) := hc.1.2.2.2.2
  have bc := popc_x (kmask v) (kmask_lt h)
  have cr := crushed_p (R := sh 200 R) (pl := pl) hc h hR
  have cm := crushedNow_m (I := I) hw h
  have km := kept_m (I := I) hw h
  simp only [x_count, m_count, m_rowsMany, x0, m0, o2, o1, many, e6, e7, e8, z4, z10, z11, bc, cr, cm, km, h1, h9, ife]
  exact ⟨_, rfl, rfl⟩
end VIEW12
