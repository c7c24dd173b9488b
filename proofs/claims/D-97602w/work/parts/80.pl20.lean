/-! PLAIN LAW 20: redeem, give, days -/
set_option maxRecDepth 100000
theorem km_set {v : Nat → Nat} {m : Nat} (hm : m < 8) (h0 : v (65 + m) = 0) : kmask (setv v (65 + m) 1) = kmask v + 2 ^ m := by
  rcases (show m = 0 ∨ m = 1 ∨ m = 2 ∨ m = 3 ∨ m = 4 ∨ m = 5 ∨ m = 6 ∨ m = 7 by omega) with rfl | rfl | rfl | rfl | rfl | rfl | rfl | rfl <;> simp [kmask, setv] at h0 ⊢ <;> omega
section ACTS2
variable {v : Nat → Nat} {I Im : Nat → Int32} {A Am : Nat → Nat → Int32} {R : Nat → Option Nat} {P : Nat → Option Par} {N : Nat → Option Rw_} {T : Int32 × (Nat → Int32)} {pl n : Nat} {ks : Nat → Nat}
theorem OK_kp (h : OKv v) {m : Nat} (hm : m < v 7) : OKv (setv v (65 + m) 1) := by
  have h7 := v_m h
  have e : ∀ i, i < 65 → setv v (65 + m) 1 i = v i := fun i hi => setv_n _ _ (by omega)
  obtain ⟨⟨a1, a2, a3, a4⟩, b, c, d, f, g, k⟩ := h
  have e6 := e 6 (by omega); have e7 := e 7 (by omega); have e9 := e 9 (by omega); have e8 := e 8 (by omega)
  refine ⟨⟨by rw [e6]; exact a1, by rw [e7]; exact a2, by rw [e8]; exact a3, by rw [e9, e6]; exact a4⟩, fun i hi => by rw [e i (by omega)]; exact b i hi, fun q hq => by rw [e _ (by omega), e _ (by omega)]; exact c q hq, fun q hq => ?_, fun j hj => ?_, fun j hj => ?_, fun j hj hj7 => ?_⟩
  · rw [e6] at hq
    rw [e _ (by omega), e _ (by omega)]
    exact d q hq
  · rw [e7] at hj
    rw [e6, e (25 + j) (by omega), e (33 + j) (by omega), e (41 + j) (by omega), e (49 + j) (by omega), e (57 + j) (by omega)]
    exact f j hj
  · unfold setv
    split
    · exact Nat.le_refl _
    · exact g j hj
  · rw [e7] at hj7
    rw [setv_n _ _ (by omega)]
    exact k j hj hj7
theorem CV_kp (hc : CV v I A n ks) (h : OKv v) {m : Nat} (hm : m < 8) (h0 : v (65 + m) = 0) {I1 : Nat → Int32} (h4 : I1 4 = I 4) (h10 : I1 10 = nI (kmask v + 2 ^ m)) (h11 : I1 11 = I 11) : CV (setv v (65 + m) 1) I1 A n ks := by
  have h6 := v_n h
  have e : ∀ i, i < 65 → setv v (65 + m) 1 i = v i := fun i hi => setv_n _ _ (by omega)
  obtain ⟨⟨a1, a2, a3, a4, a5⟩, b, c, d⟩ := hc
  refine ⟨⟨by rw [e 6 (by decide)]; exact a1, fun q hq => by rw [e _ (by omega)]; exact a2 q hq, by rw [e 7 (by decide), h4]; exact a3, by rw [h10, km_set hm h0], by rw [h11, e 8 (by decide)]; exact a5⟩, fun k hk => by rw [e k (by omega)]; exact b k hk, fun q hq => by rw [e _ (by omega), e _ (by omega)]; exact c q hq, fun j hj => ?_⟩
  rw [e (25 + j) (by omega), e (33 + j) (by omega), e (41 + j) (by omega), e (49 + j) (by omega), e (57 + j) (by omega)]
  exact d j hj
theorem eq_redeem (h : JR I A R P N T pl n ks Im Am) (a : Int32) : ∃ r I1 P1 Im1 Am1, h_redeem I A R P N T pl n ks a = some (r, I1, P1) ∧ m_redeem Im Am a = some (r, Im1, Am1) ∧ JR I1 A R P1 N T pl n ks Im1 Am1 := by
  have hh := h
  obtain ⟨⟨v, hp⟩, ja, -⟩ := h
  obtain ⟨hw, ok, v8, hc, hR⟩ := hp
  have h6 := v_n ok; have h7 := v_m ok
  rcases promise_or (I := Im) (A := Am) (R := R) (G := nG) (pl := pl) hw ok a with ⟨e1, e2⟩ | ⟨m, hm, rfl, e1, e2⟩
  · exact ⟨_, _, _, _, _, by rw [h_redeem, e2 _ _ _ _ hc, o1n, if_pos rfl], by rw [m_redeem, e1, o1n, if_pos rfl], hh⟩
  have e2 := e2 _ _ _ _ hc
  have hk := v_kp ok (show m < 8 by omega)
  obtain ⟨q1, q2, q3, q4, q5⟩ := v_pr ok hm
  have sp := (v_sp ok (show v (25 + m) < 5 by omega)).2
  have hb : x_has (I 210) (nI m) = some (nI (v (65 + m))) := by
    rw [show I 210 = _ from hc.1.2.2.2.1, has_x _ (kmask_lt ok) m (by omega), kmask_b ok (by omega)]
  have x5 : ldO (A 205) 8 (nI m) = _ := ldN rfl (by omega) (by decide) (hc.2.2.2 m (by omega)).1
  have x3 : ldO (A 203) 5 (nI (v (25 + m))) = _ := ldN rfl (by omega) (by decide) (hc.2.2.1 (v (25 + m)) (by omega)).2
  have x9 : ldO (A 209) 8 (nI m) = _ := ldN rfl (by omega) (by decide) (hc.2.2.2 m (by omega)).2.2.2.2
  have x8 : ldO (A 208) 8 (nI m) = _ := ldN rfl (by omega) (by decide) (hc.2.2.2 m (by omega)).2.2.2.1
  have e65 : ldO (Am 0) 2044 (65 + nI m) = _ := ldW hw (65 + m) (nI_add 65 m) (by omega)
  have e25 : ldO (Am 0) 2044 (25 + nI m) = _ := ldW hw (25 + m) (nI_add 25 m) (by omega)
  have e20 : ldO (Am 0) 2044 (20 + nI (v (25 + m))) = _ := ldW hw (20 + v (25 + m)) (nI_add 20 _) (by omega)
  have e57 : ldO (Am 0) 2044 (57 + nI m) = _ := ldW hw (57 + m) (nI_add 57 m) (by omega)
  have z65 : (nI (v (65 + m)) = (0 : Int32)) = _ := z0 (a := v (65 + m)) (by omega)
  have o65 : (nI (v (65 + m)) = (1 : Int32)) = _ := eqL 1 (by omega) (by decide)
  have c1 : (nI (v (20 + v (25 + m))) = nI (v (57 + m))) = _ := eqL (v (57 + m)) (by omega) (by omega)
  simp only [h_redeem, m_redeem, e1, e2, hb, x5, x3, x9, e65, e25, e20, e57, o1n, n10, if_false, z65, o65, c1]
  by_cases a1 : v (65 + m) = 0
  · rw [if_pos a1, if_neg (show ¬ v (65 + m) = 1 by omega)]
    by_cases a2 : v (20 + v (25 + m)) = v (57 + m)
    · rw [if_pos a2, if_pos a2]
      obtain ⟨c, P1, Am1, c1, k1, k2, k3, k4, k5, k6⟩ := minds_j (I := I) (A := A) (Im := Im) (Am := Am) (P := P) ⟨hw, ok, v8, hc, hR⟩ ja
      have hw1 : MW v (Am1 0) := fun i hi => (k4 i (by omega)).trans (hw i hi)
      have s65 : stO (Am1 0) 2044 (65 + nI m) 1 = _ := stN _ (nI_add 65 m) (show 65 + m < 2044 by omega) (by decide)
      have hw2 : MW (setv v (65 + m) 1) (upd (Am1 0) (65 + m) (nI 1)) := MW_set hw1 _ _
      have l8 : ldO (va_up Am1 0 (upd (Am1 0) (65 + m) 1) 0) 2044 8 = some (nI (v 8)) := by
        have := ldN (f := upd (Am1 0) (65 + m) (nI 1)) (N := 2044) (i := 8) (k := 8) rfl (by decide) (by decide) (hw2 8 (by decide))
        rw [setv_n _ _ (by omega)] at this
        exact this
      have l49 : ldO (va_up Am1 0 (upd (Am1 0) (65 + m) 1) 0) 2044 (49 + nI m) = some (nI (v (49 + m))) := by
        have := ldN (f := upd (Am1 0) (65 + m) (nI 1)) (N := 2044) (k := 49 + m) (nI_add 49 m) (by omega) (by decide) (hw2 (49 + m) (by omega))
        rw [setv_n _ _ (by omega)] at this
        exact this
      have z11 : upd (upd I 107 (nI c)) 210 (upd I 107 (nI c) 210 ||| (1 : Int32) <<< (nI m &&& 31)) 211 = nI (v 8) := hc.1.2.2.2.2
      have km : upd I 107 (nI c) 210 ||| (1 : Int32) <<< (nI m &&& 31) = nI (kmask v + 2 ^ m) := by
        rw [show upd I 107 (nI c) 210 = nI (kmask v) from hc.1.2.2.2.1, shl_1 m (by omega)]
        exact orb_s _ (kmask_lt ok) m (by omega) (by rw [kmask_b ok (by omega)]; exact a1)
      refine ⟨_, _, _, _, _, by rw [k1, o2n, x8, o1n, z11, ife, o1n], by rw [k2, o2n, s65, o1n, l8, o1n, l49, o1n, ife, o1n], ?_⟩
      exact JR_act (v1 := setv v (65 + m) 1) hh k3 k4 k5 k6 ⟨hw2, OK_kp ok hm, by rw [setv_n _ _ (by omega)]; exact v8, CV_kp hc ok (by omega) a1 rfl km rfl, hR⟩ rfl rfl rfl rfl rfl (fun i hi => upd_n _ _ (by omega)) (fun i hi => va_up_ne _ _ hi)
    · rw [if_neg a2, if_neg a2]
      exact ⟨_, _, _, _, _, rfl, rfl, hh⟩
  · rw [if_neg a1, if_pos (show v (65 + m) = 1 by omega)]
    exact ⟨_, _, _, _, _, rfl, rfl, hh⟩
/-- one more day -/
theorem JP_up {a : Int32} {w : Nat → Int32} (h : JP v I A R pl n ks w) : JP v (upd I 107 a) A R pl n ks w := ⟨h.1, h.2.1, h.2.2.1, CV_up h.2.2.2.1, h.2.2.2.2⟩
theorem CV_mg2 (h : CV v I A n ks) (I0 : Nat → Int32) (A0 : Nat → Nat → Int32) : CV v (sh 200 (mg 200 I0 I)) (sh 200 (mg 200 A0 A)) n ks :=
  CV_congr ⟨mg_hi _ _ (by decide), mg_hi _ _ (by decide), mg_hi _ _ (by decide)⟩ ⟨fun k hk => by rw [mg_hi _ _ (by decide)], fun p hp => by rw [mg_hi _ _ (by decide), mg_hi _ _ (by decide)]; exact ⟨rfl, rfl⟩, fun m hm => by rw [mg_hi _ _ (by decide), mg_hi _ _ (by decide), mg_hi _ _ (by decide), mg_hi _ _ (by decide), mg_hi _ _ (by decide)]; exact ⟨rfl, rfl, rfl, rfl, rfl⟩⟩ h
theorem eq_days (h : JR I A R P N T pl n ks Im Am) (a : Int32) : RES I A R N T pl n ks (h_days I A R P N T pl n ks a) (m_days Im Am a) := by
  have hh := h
  obtain ⟨⟨v, hp⟩, ja, -⟩ := h
  obtain ⟨hw, ok, v8, hc, hR⟩ := hp
  have e1 := none_m (I := Im) hw ok
  have e2 := parish_x (G := nG) hc hR ok
  by_cases c : v 6 = 0
  · rw [if_pos c] at e1 e2
    exact ⟨_, _, _, _, _, _, by rw [h_days, e2, o1n, if_pos rfl], by rw [m_days, e1, o1n, if_neg (show ¬ (1 : Int32) = 0 by decide)], hh⟩
  rw [if_neg c] at e1 e2
  rcases in_ab a (L := 1) (H := 24) 1 24 rfl rfl (by decide) with h1 | ⟨b, hb1, hb, rfl, h1⟩
  · exact ⟨_, _, _, _, _, _, by rw [h_days, e2, o1n, if_neg (show ¬ (1 : Int32) = 0 by decide), h1, o1n, if_pos rfl], by rw [m_days, e1, o1n, if_pos rfl, m_in_x, h1, o1n, if_pos rfl], hh⟩
  have e8 : ldO (Am 0) 2044 8 = _ := ldW hw 8 rfl (by decide)
  have z11 : I 211 = nI (v 8) := hc.1.2.2.2.2
  have cc : (nI (v 8) + nI b ≤ (999 : Int32)) = (v 8 + b ≤ 999) := by
    rw [nI_add]
    exact leL (b := 999) (by omega) (by decide)
  rw [h_days, m_days, e1, e2, o1n, o1n, if_neg (show ¬ (1 : Int32) = 0 by decide), if_pos rfl, m_in_x, h1, o1n, o1n, if_neg (show ¬ (1 : Int32) = 0 by decide), if_neg (show ¬ (1 : Int32) = 0 by decide), e8, o1n]
  by_cases d : v 8 + b ≤ 999
  · rw [if_pos (show nI (v 8) + nI b ≤ 999 from cc ▸ d), if_pos (show I 211 + nI b ≤ 999 by rw [z11]; exact cc ▸ d)]
    have hr := lp_two (fun k (s : (Nat → Int32) × (Nat → Nat → Int32) × (Nat → Option Par) × Int32) => h_days_L45 R pl n ks (nI b) k s.1 s.2.1 s.2.2.1 s.2.2.2) (fun k (s : (Nat → Int32) × (Nat → Nat → Int32) × Int32) => m_days_L45 (nI b) k s.1 s.2.1 s.2.2)
      (fun i s t => s.2.2.2 = nI i ∧ t.2.2 = nI i ∧ JR s.1 s.2.1 R s.2.2.1 N T pl n ks t.1 t.2.1 ∧ s.1 211 = nI (v 8 + i)) b
      (fun s t => JR s.1 s.2.1 R s.2.2.1 N T pl n ks t.1 t.2.1 ∧ s.1 211 = nI (v 8 + b))
      (fun k s t hs => by
        obtain ⟨J, B, Q, x⟩ := s
        obtain ⟨Jm, Bm, y⟩ := t
        obtain ⟨rfl, rfl, g1, g2⟩ := hs
        refine ⟨(J, B, Q, nI b), (Jm, Bm, nI b), ?_, ?_, g1, g2⟩
        · simp only [h_days_L45]
          rw [if_pos (Int32.le_refl _)]
        · simp only [m_days_L45]
          rw [if_pos (Int32.le_refl _)])
      (fun k i s t hi hs => by
        obtain ⟨J, B, Q, x⟩ := s
        obtain ⟨Jm, Bm, y⟩ := t
        obtain ⟨rfl, rfl, g1, g2⟩ := hs
        have g1 : JR J B R Q N T pl n ks Jm Bm := g1
        have g2 : J 211 = nI (v 8 + i) := g2
        have gg := g1
        obtain ⟨⟨u, hp⟩, ja, -⟩ := g1
        obtain ⟨hw, ok, u8, hc, hR⟩ := hp
        obtain ⟨c, P1, Am1, c1, k1, k2, k3, k4, k5, k6⟩ := minds_j (I := J) (A := B) (Im := Jm) (Am := Bm) (P := Q) ⟨hw, ok, u8, hc, hR⟩ ja
        have hw1 : MW u (Am1 0) := fun i hi => (k4 i (by omega)).trans (hw i hi)
        obtain ⟨B1, p1, p2, p3⟩ := pass_p (I := sh 200 (upd J 107 (nI c))) (A := sh 200 B) (R := sh 200 R) (pl := pl) (CV_up hc) ok hR
        obtain ⟨A2, q1, q2, q3, q4⟩ := grows_m (I := upd Jm 1 (nI c)) (A := Am1) hw1 ok
        have ue : u 8 = v 8 + i := by
          have : nI (u 8) = nI (v 8 + i) := (hc.1.2.2.2.2).symm.trans g2
          rw [eqL _ (by omega) (by omega)] at this
          exact this
        have e8 : ldO (A2 0) 2044 8 = some (nI (u 8)) := by
          have := ldW q2 (i := 8) 8 rfl (by decide)
          rw [show grw u 8 = u 8 from grS_o (v_n ok) (by omega)] at this
          exact this
        have s8 : ∀ x : Int32, stO (A2 0) 2044 8 x = some (upd (A2 0) 8 x) := fun x => stN (k := 8) x rfl (by decide) (by decide)
        have nge : ¬ nI b ≤ nI i := nI_ge hi (by omega)
        have ok2 : OKv (setv (grw u) 8 (u 8 + 1)) := OK_8 (OK_grw ok) (by omega)
        refine ⟨(mg 200 (upd J 107 (nI c)) (upd (sh 200 (upd J 107 (nI c))) 11 (sh 200 (upd J 107 (nI c)) 11 + 1)), mg 200 B B1, P1, nI (i + 1)), (upd Jm 1 (nI c), va_up A2 0 (upd (A2 0) 8 (nI (u 8 + 1))), nI (i + 1)), ⟨rfl, rfl, ?_, ?_⟩, ?_, ?_⟩
        · exact JR_act (v1 := setv (grw u) 8 (u 8 + 1)) gg k3 k4 k5 k6 ⟨MW_set q2 _ _, ok2, by rw [setv_s]; omega, CV_mg2 p2 _ _, hR⟩ rfl rfl rfl rfl rfl (fun i hi => (upd_n _ _ (by omega)).trans (q4 i (by omega))) (fun i hi => (va_up_ne _ _ hi).trans (q3 i hi))
        · show J 211 + 1 = nI (v 8 + (i + 1))
          rw [g2, nI_1]
          rfl
        · simp only [h_days_L45, k1, o2n, p1]
          rw [if_neg nge, nI_1]
        · simp only [m_days_L45, k2, o2n, q1, e8, o1n, nI_1, s8]
          rw [if_neg nge]) NF (I, A, P, 0) (Im, Am, 0) (NFb (by omega)) ⟨rfl, rfl, hh, z11⟩
    obtain ⟨⟨J, B, Q, x⟩, ⟨Jm, Bm, y⟩, r1, r2, r3, r4⟩ := hr
    have r1 : h_days_L45 R pl n ks (nI b) NF I A P 0 = _ := r1
    have r2 : m_days_L45 (nI b) NF Im Am 0 = _ := r2
    have r3 : JR J B R Q N T pl n ks Jm Bm := r3
    have r4 : J 211 = nI (v 8 + b) := r4
    obtain ⟨⟨u, hu⟩, -⟩ := id r3
    have ue : J 211 = nI (u 8) := hu.2.2.2.1.1.2.2.2.2
    have e8' : ldO (Bm 0) 2044 8 = _ := ldW hu.1 8 rfl (by decide)
    exact ⟨_, _, _, _, _, _, by rw [r1, o4], by rw [r2, o3n, e8', o1n, ← ue], r3⟩
  · rw [if_neg (show ¬ nI (v 8) + nI b ≤ 999 from fun z => d (cc ▸ z)), if_neg (show ¬ I 211 + nI b ≤ 999 by rw [z11]; exact fun z => d (cc ▸ z))]
    exact ⟨_, _, _, _, _, _, rfl, rfl, hh⟩
end ACTS2
