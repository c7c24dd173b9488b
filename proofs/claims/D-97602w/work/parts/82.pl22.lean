/-! PLAIN LAW 22: undo, image, restore -/
set_option maxRecDepth 100000
section ACTS4
variable {v : Nat → Nat} {I Im : Nat → Int32} {A Am : Nat → Nat → Int32} {R : Nat → Option Nat} {P : Nat → Option Par} {N : Nat → Option Rw_} {T : Int32 × (Nat → Int32)} {pl n : Nat} {ks : Nat → Nat}
theorem JR_new {v1 : Nat → Nat} {I2 Im2 : Nat → Int32} {A2 Am2 : Nat → Nat → Int32} {R2 : Nat → Option Nat} {P2 : Nat → Option Par} {pl2 n2 : Nat} {ks2 : Nat → Nat} (h : JR I A R P N T pl n ks Im Am) (hp : JP v1 I2 A2 R2 pl2 n2 ks2 (Am2 0)) (ha : JA I2 P2 Im2 (Am2 0)) (hi : JI P2 (Am2 0) (Am2 2)) (i1 : I2 102 = I 102) (i2 : I2 103 = I 103) (i3 : I2 110 = I 110) (hA : A2 101 = A 101) (m : Im2 7 = Im 7 ∧ Im2 9 = Im 9 ∧ Im2 10 = Im 10 ∧ Im2 23 = Im 23) (e : Am2 3 = Am 3 ∧ Am2 4 = Am 4 ∧ Am2 5 = Am 5 ∧ Am2 8 = Am 8 ∧ Am2 22 = Am 22) : JR I2 A2 R2 P2 N T pl2 n2 ks2 Im2 Am2 := by
  obtain ⟨-, -, -, jw, jt, jq, j1, j2⟩ := h
  obtain ⟨m7, m9, m10, m23⟩ := m
  obtain ⟨e3, e4, e5, e8, e22⟩ := e
  refine ⟨⟨v1, hp⟩, ha, hi, ?_, ?_, ?_, ?_, ?_⟩
  · rw [e3, e4, e5]
    exact jw
  · obtain ⟨t, t1, t2, t3, t4⟩ := jt
    rw [e8, hA]
    exact ⟨t, t1, i1.trans t2, m9.trans t3, t4⟩
  · obtain ⟨q, q1, q2, q3, q4⟩ := jq
    rw [e22]
    exact ⟨q, q1, q2, m23.trans q3, q4⟩
  · rw [i3, m7]
    exact j1
  · rw [i2, m10]
    exact j2
/-- a stretch of the row is copied: to its front, from its front -/
theorem cpF (L : Nat → (Nat → Int32) → (Nat → Nat → Int32) → Int32 → Option ((Nat → Int32) × (Nat → Nat → Int32) × Int32)) (J : Nat → Int32) (B : Nat → Nat → Int32) (o : Nat) (ho : 73 ≤ o) (hx : ∀ k C, L (k + 1) J C (nI 73) = some (J, C, nI 73)) (hs : ∀ k C j, j < 73 → C 0 (o + j) = B 0 (o + j) → L (k + 1) J C (nI j) = L k J (va_up C 0 (upd (C 0) j (B 0 (o + j)))) (nI (j + 1))) : ∃ C y, L NF J B 0 = some (J, C, y) ∧ (∀ i, i < 73 → C 0 i = B 0 (o + i)) ∧ (∀ i, 73 ≤ i → C 0 i = B 0 i) ∧ ∀ i, i ≠ 0 → C i = B i := by
  have hr := lp_rel (fun k (s : (Nat → Int32) × (Nat → Nat → Int32) × Int32) => L k s.1 s.2.1 s.2.2) (fun j s => s.1 = J ∧ s.2.2 = nI j ∧ (∀ i, i < j → s.2.1 0 i = B 0 (o + i)) ∧ (∀ i, j ≤ i → s.2.1 0 i = B 0 i) ∧ ∀ i, i ≠ 0 → s.2.1 i = B i) 73 (fun s => s.1 = J ∧ (∀ i, i < 73 → s.2.1 0 i = B 0 (o + i)) ∧ (∀ i, 73 ≤ i → s.2.1 0 i = B 0 i) ∧ ∀ i, i ≠ 0 → s.2.1 i = B i)
    (fun k s hs => by
      obtain ⟨K, C, x⟩ := s
      obtain ⟨rfl, rfl, h1, h2, h3⟩ := hs
      exact ⟨(K, C, nI 73), hx k C, rfl, h1, h2, h3⟩)
    (fun k j s hj hq => by
      obtain ⟨K, C, x⟩ := s
      obtain ⟨rfl, rfl, h1, h2, h3⟩ := hq
      have h1 : ∀ i, i < j → C 0 i = B 0 (o + i) := h1
      have h2 : ∀ i, j ≤ i → C 0 i = B 0 i := h2
      refine Or.inl ⟨(K, va_up C 0 (upd (C 0) j (B 0 (o + j))), nI (j + 1)), ⟨rfl, rfl, fun i hi => ?_, fun i hi => ?_, fun i hi => (va_up_ne _ _ hi).trans (h3 i hi)⟩, hs k C j hj (h2 _ (by omega))⟩
      · show upd (C 0) _ _ _ = _
        by_cases q : i = j
        · rw [q, upd_s]
        · rw [upd_n _ _ q]
          exact h1 i (by omega)
      · show upd (C 0) _ _ _ = _
        rw [upd_n _ _ (by omega)]
        exact h2 i (by omega)) NF (J, B, 0) (NFb (by omega)) ⟨rfl, rfl, fun i hi => absurd hi (by omega), fun _ _ => rfl, fun _ _ => rfl⟩
  obtain ⟨⟨K, C, y⟩, g1, rfl, g2, g3, g4⟩ := hr
  exact ⟨C, y, g1, g2, g3, g4⟩
theorem slI {lo M k : Nat} {i : Int32} (hi : i = nI k) (hk : k < M) (hM : M < 1000) : slN lo M i = some (lo + k) := by
  subst hi
  have := vp_in_nI hk (show M < 2 ^ 31 by omega)
  unfold slN
  rw [if_neg this, nI_clamp (by omega)]
theorem eq_undo (h : JR I A R P N T pl n ks Im Am) : ∃ r I1 A1 R1 pl1 n1 ks1 Im1 Am1, h_undo I A R P N T pl n ks = some (r, I1, A1, R1, (pl1, n1, ks1)) ∧ m_undo Im Am = some (r, Im1, Am1) ∧ JR I1 A1 R1 P N T pl1 n1 ks1 Im1 Am1 := by
  have hh := h
  obtain ⟨-, ja, ji, -⟩ := h
  obtain ⟨a, a1, a2, a3, a4⟩ := ja
  by_cases c : a = 0
  · subst c
    exact ⟨_, _, _, _, _, _, _, _, _, by rw [h_undo, if_pos (show I 107 = 0 from a2)], by rw [m_undo, if_pos (show Im 1 = 0 from a3)], hh⟩
  have z : ¬ nI a = (0 : Int32) := fun e => c ((z0 (a := a) (by omega)) ▸ e)
  obtain ⟨B, b1, u, u1, u2, u3, u4⟩ := a4 (a - 1) (by omega)
  have s1 : nI a - 1 = nI (a - 1) := pk_sub (b := 1) (by omega)
  have n1 : I 107 - 1 = nI (a - 1) := by rw [a2]; exact s1
  have n2 : Im 1 - 1 = nI (a - 1) := by rw [a3]; exact s1
  obtain ⟨C, y, m1, m2, m3, m4⟩ := cpF m_undo_L22 (upd Im 1 (nI (a - 1))) Am (292 + 73 * (a - 1)) (by omega) (fun k C => rfl) (fun k C j hj he => by
    have e : ldO (C 0) 2044 (292 + 73 * (nI (a - 1)) + nI j) = some (Am 0 (292 + 73 * (a - 1) + j)) := ldN (k := 292 + 73 * (a - 1) + j) (by rw [show (73 : Int32) = nI 73 from rfl, pk_mul, show (292 : Int32) = nI 292 from rfl, nI_add, nI_add]) (by omega) (by decide) he
    have st : ∀ x : Int32, stO (C 0) 2044 (nI j) x = _ := fun x => stN x rfl (show j < 2044 by omega) (by decide)
    simp only [m_undo_L22, upd_s, e, o1n, st]
    rw [if_neg (show ¬ (73 : Int32) ≤ nI j from nI_ge (b := 73) hj (by decide)), nI_1])
  refine ⟨nI (a - 1), mg 200 (upd I 107 (nI (a - 1))) (becI (sh 200 (upd I 107 (nI (a - 1)))) B.1), mg 200 A (becA (sh 200 A) B.2.1), mg 200 R (va_up (sh 200 R) 1 (some B.2.2.1)), B.2.2.1, B.2.2.2.1, B.2.2.2.2, upd Im 1 (nI (a - 1)), C, ?_, ?_, ?_⟩
  · rw [h_undo, if_neg (by rw [a2]; exact z), n1, upd_s, slI (lo := 0) rfl (show a - 1 < 24 by omega) (by decide), o1n, Nat.zero_add, b1, o1n]
    rfl
  · rw [m_undo, if_neg (by rw [a3]; exact z), n2, m1, o3n, upd_s]
  · refine JR_new (v1 := u) hh ⟨fun i hi => (m2 i hi).trans (u4 i hi), u1, u2, CV_mg2 (bec_cv u3) _ _, rfl⟩ ⟨a - 1, by omega, rfl, upd_s _ _ _, fun k hk => ?_⟩ ?_ rfl rfl rfl rfl ⟨rfl, rfl, rfl, rfl⟩ ⟨m4 3 (by decide), m4 4 (by decide), m4 5 (by decide), m4 8 (by decide), m4 22 (by decide)⟩
    · obtain ⟨B', b1', b2'⟩ := a4 k (by omega)
      exact ⟨B', b1', Slot_w b2' (fun i h1 _ => m3 i (by omega))⟩
    · rw [m4 2 (by decide)]
      exact JI_c ji (fun _ _ => rfl) (fun i h1 _ => m3 i h1)
theorem eq_restore (h : JR I A R P N T pl n ks Im Am) (b : Int32) : ∃ r I1 A1 R1 pl1 n1 ks1 Im1 Am1, h_restore I A R P N T pl n ks b = some (r, I1, A1, R1, (pl1, n1, ks1)) ∧ m_restore Im Am b = some (r, Im1, Am1) ∧ JR I1 A1 R1 P N T pl1 n1 ks1 Im1 Am1 := by
  have hh := h
  obtain ⟨-, ja, ji, -⟩ := h
  have nz : ¬ (1 : Int32) = 0 := by decide
  rcases in_ab b (L := 0) (H := 1) 0 1 rfl rfl (by decide) with g | ⟨k, -, hk, rfl, g⟩
  · exact ⟨_, _, _, _, _, _, _, _, _, by rw [h_restore, g, o1n, if_pos rfl], by rw [m_restore, m_in_x, g, o1n, if_pos rfl], hh⟩
  rcases ji k (by omega) with ⟨p1, p2⟩ | ⟨B, p1, p2, u, u1, u2, u3, u4⟩
  · refine ⟨_, _, _, _, _, _, _, _, _, by rw [h_restore, g, o1n, if_neg nz, slI (lo := 24) rfl (show k < 2 by omega) (by decide), o1n, p1, if_neg (show ¬ (none : Option Par).isSome = true from Bool.false_ne_true)], ?_, hh⟩
    rw [m_restore, m_in_x, g, o1n, if_neg nz, ldN rfl (show k < 2 by omega) (by decide) p2, o1n, if_pos rfl]
  · obtain ⟨C, y, m1, m2, m3, m4⟩ := cpF (m_restore_L27 (nI k)) Im Am (73 * (k + 1)) (by omega) (fun k C => rfl) (fun f C j hj he => by
      have e : ldO (C 0) 2044 (73 * (nI k + 1) + nI j) = some (Am 0 (73 * (k + 1) + j)) := ldN (k := 73 * (k + 1) + j) (by rw [nI_1, show (73 : Int32) = nI 73 from rfl, pk_mul, nI_add]) (by omega) (by decide) he
      have st : ∀ x : Int32, stO (C 0) 2044 (nI j) x = _ := fun x => stN x rfl (show j < 2044 by omega) (by decide)
      simp only [m_restore_L27, e, o1n, st]
      rw [if_neg (show ¬ (73 : Int32) ≤ nI j from nI_ge (b := 73) hj (by decide)), nI_1])
    refine ⟨1, upd (mg 200 I (becI (sh 200 I) B.1)) 107 0, mg 200 A (becA (sh 200 A) B.2.1), mg 200 R (va_up (sh 200 R) 1 (some B.2.2.1)), B.2.2.1, B.2.2.2.1, B.2.2.2.2, upd Im 1 0, C, ?_, ?_, ?_⟩
    · rw [h_restore, g, o1n, if_neg nz, slI (lo := 24) rfl (show k < 2 by omega) (by decide), o1n, p1, if_pos (show (some B).isSome = true from rfl), o1n, p1, o1n]
    · rw [m_restore, m_in_x, g, o1n, if_neg nz, ldN rfl (show k < 2 by omega) (by decide) p2, o1n, if_neg nz, m1, o3n]
    · refine JR_new (v1 := u) hh ⟨fun i hi => (m2 i hi).trans (u4 i hi), u1, u2, CV_congr (I := sh 200 (mg 200 I (becI (sh 200 I) B.1))) (A := sh 200 (mg 200 A (becA (sh 200 A) B.2.1))) ⟨rfl, rfl, rfl⟩ ⟨fun _ _ => rfl, fun _ _ => ⟨rfl, rfl⟩, fun _ _ => ⟨rfl, rfl, rfl, rfl, rfl⟩⟩ (CV_mg2 (bec_cv u3) _ _), rfl⟩ ⟨0, by omega, rfl, upd_s _ _ _, fun k hk => absurd hk (by omega)⟩ ?_ rfl rfl rfl rfl ⟨rfl, rfl, rfl, rfl⟩ ⟨m4 3 (by decide), m4 4 (by decide), m4 5 (by decide), m4 8 (by decide), m4 22 (by decide)⟩
      rw [m4 2 (by decide)]
      exact JI_c ji (fun _ _ => rfl) (fun i h1 _ => m3 i h1)
theorem cpT (J : Nat → Int32) (B : Nat → Nat → Int32) {k : Nat} (hk : k < 2) : ∃ C y, m_image_L25 (nI k) NF J B 0 = some (J, C, y) ∧ (∀ i, i < 73 → C 0 (73 * (k + 1) + i) = B 0 i) ∧ (∀ i, (i < 73 * (k + 1) ∨ 73 * (k + 1) + 73 ≤ i) → C 0 i = B 0 i) ∧ ∀ i, i ≠ 0 → C i = B i := by
  have hr := lp_rel (fun f (s : (Nat → Int32) × (Nat → Nat → Int32) × Int32) => m_image_L25 (nI k) f s.1 s.2.1 s.2.2) (fun j s => s.1 = J ∧ s.2.2 = nI j ∧ (∀ i, i < j → s.2.1 0 (73 * (k + 1) + i) = B 0 i) ∧ (∀ i, (i < 73 * (k + 1) ∨ 73 * (k + 1) + j ≤ i) → s.2.1 0 i = B 0 i) ∧ ∀ i, i ≠ 0 → s.2.1 i = B i) 73 (fun s => s.1 = J ∧ (∀ i, i < 73 → s.2.1 0 (73 * (k + 1) + i) = B 0 i) ∧ (∀ i, (i < 73 * (k + 1) ∨ 73 * (k + 1) + 73 ≤ i) → s.2.1 0 i = B 0 i) ∧ ∀ i, i ≠ 0 → s.2.1 i = B i)
    (fun f s hs => by
      obtain ⟨K, C, x⟩ := s
      obtain ⟨rfl, rfl, h1, h2, h3⟩ := hs
      exact ⟨(K, C, nI 73), rfl, rfl, h1, h2, h3⟩)
    (fun f j s hj hs => by
      obtain ⟨K, C, x⟩ := s
      obtain ⟨rfl, rfl, h1, h2, h3⟩ := hs
      have h1 : ∀ i, i < j → C 0 (73 * (k + 1) + i) = B 0 i := h1
      have h2 : ∀ i, (i < 73 * (k + 1) ∨ 73 * (k + 1) + j ≤ i) → C 0 i = B 0 i := h2
      have e : ldO (C 0) 2044 (nI j) = some (B 0 j) := ldN rfl (by omega) (by decide) (h2 j (by omega))
      have ix : 73 * (nI k + 1) + nI j = nI (73 * (k + 1) + j) := by rw [nI_1, show (73 : Int32) = nI 73 from rfl, pk_mul, nI_add]
      have st : ∀ x : Int32, stO (C 0) 2044 (73 * (nI k + 1) + nI j) x = _ := fun x => stN x ix (show 73 * (k + 1) + j < 2044 by omega) (by decide)
      refine Or.inl ⟨(K, va_up C 0 (upd (C 0) (73 * (k + 1) + j) (B 0 j)), nI (j + 1)), ⟨rfl, rfl, fun i hi => ?_, fun i hi => ?_, fun i hi => (va_up_ne _ _ hi).trans (h3 i hi)⟩, ?_⟩
      · show upd (C 0) _ _ _ = _
        by_cases q : i = j
        · rw [q, upd_s]
        · rw [upd_n _ _ (by omega)]
          exact h1 i (by omega)
      · show upd (C 0) _ _ _ = _
        rw [upd_n _ _ (by omega)]
        exact h2 i (by omega)
      · simp only [m_image_L25, e, o1n, st]
        rw [if_neg (show ¬ (73 : Int32) ≤ nI j from nI_ge (b := 73) hj (by decide)), nI_1]) NF (J, B, 0) (NFb (by omega)) ⟨rfl, rfl, fun i hi => absurd hi (by omega), fun _ _ => rfl, fun _ _ => rfl⟩
  obtain ⟨⟨K, C, y⟩, g1, rfl, g2, g3, g4⟩ := hr
  exact ⟨C, y, g1, g2, g3, g4⟩
theorem eq_image (h : JR I A R P N T pl n ks Im Am) (b : Int32) : ∃ r P1 Im1 Am1, h_image I A R P N T pl n ks b = some (r, P1) ∧ m_image Im Am b = some (r, Im1, Am1) ∧ JR I A R P1 N T pl n ks Im1 Am1 := by
  have hh := h
  obtain ⟨⟨v, hp⟩, ja, ji, -⟩ := h
  obtain ⟨hw, ok, v8, hc, hR⟩ := hp
  have nz : ¬ (1 : Int32) = 0 := by decide
  rcases in_ab b (L := 0) (H := 1) 0 1 rfl rfl (by decide) with g | ⟨k, -, hk, rfl, g⟩
  · exact ⟨_, _, _, _, by rw [h_image, g, o1n, if_pos rfl], by rw [m_image, m_in_x, g, o1n, if_pos rfl], hh⟩
  have e1 := none_m (I := Im) hw ok
  have e2 := parish_x (G := nG) hc hR ok
  by_cases c : v 6 = 0
  · rw [if_pos c] at e1 e2
    exact ⟨_, _, _, _, by rw [h_image, g, o1n, if_neg nz, e2, o1n, if_pos rfl], by rw [m_image, m_in_x, g, o1n, if_neg nz, e1, o1n, if_neg nz], hh⟩
  rw [if_neg c] at e1 e2
  obtain ⟨C, y, m1, m2, m3, m4⟩ := cpT Im Am (k := k) (by omega)
  have s2 : ∀ x : Int32, stO (C 2) 2 (nI k) x = _ := fun x => stN x rfl (show k < 2 by omega) (by decide)
  refine ⟨1, kpS P (24 + k) I A (pl, n, ks), Im, va_up C 2 (upd (C 2) k (vp_nar .boolean 1)), ?_, ?_, ?_⟩
  · rw [h_image, g, o1n, if_neg nz, e2, o1n, if_neg nz, slI (lo := 24) rfl (show k < 2 by omega) (by decide), o1n]
    split <;> rfl
  · rw [m_image, m_in_x, g, o1n, if_neg nz, e1, o1n, if_pos rfl, m1, o3n, s2, o1n]
  · refine JR_new (v1 := v) hh ⟨fun i hi => (m3 i (by omega)).trans (hw i hi), ok, v8, hc, hR⟩ ?_ (fun j hj => ?_) rfl rfl rfl rfl ⟨rfl, rfl, rfl, rfl⟩ ⟨m4 3 (by decide), m4 4 (by decide), m4 5 (by decide), m4 8 (by decide), m4 22 (by decide)⟩
    · obtain ⟨a, a1, a2, a3, a4⟩ := ja
      refine ⟨a, a1, a2, a3, fun j hj => ?_⟩
      obtain ⟨B', b1', b2'⟩ := a4 j hj
      exact ⟨B', (va_up_ne _ _ (by omega)).trans b1', Slot_w b2' (fun i h1 _ => m3 i (by omega))⟩
    · by_cases q : j = k
      · subst q
        exact Or.inr ⟨_, va_up_self _ _ _, (upd_s _ _ _).trans (by decide), v, ok, v8, bec_cv hc, fun i hi => (m2 i hi).trans (hw i hi)⟩
      · have e2' : va_up C 2 (upd (C 2) k (vp_nar .boolean 1)) 2 j = Am 2 j := by
          rw [va_up_self, upd_n _ _ q, m4 2 (by decide)]
        rcases ji j hj with ⟨p1, p2⟩ | ⟨B, p1, p2, p3⟩
        · exact Or.inl ⟨(va_up_ne _ _ (by omega)).trans p1, e2'.trans p2⟩
        · exact Or.inr ⟨B, (va_up_ne _ _ (by omega)).trans p1, e2'.trans p2, Slot_w p3 (fun i h1 h2 => m3 i (by omega))⟩
end ACTS4
