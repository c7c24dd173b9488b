/-! PLAIN LAW 23: rows, the tape, the trail -/
set_option maxRecDepth 100000
section ROWS
variable {v : Nat → Nat} {I Im : Nat → Int32} {A Am : Nat → Nat → Int32} {R : Nat → Option Nat} {P : Nat → Option Par} {N : Nat → Option Rw_} {T : Int32 × (Nat → Int32)} {pl n : Nat} {ks : Nat → Nat}
/-- only rows and the status change -/
theorem JR_rw {N1 : Nat → Option Rw_} {x : Int32} {Am1 : Nat → Nat → Int32} (h : JR I A R P N T pl n ks Im Am) (hn : JW N1 (Am1 3) (Am1 4) (Am1 5)) (e : Am1 0 = Am 0 ∧ Am1 2 = Am 2 ∧ Am1 8 = Am 8 ∧ Am1 22 = Am 22) : JR (upd I 110 x) A R P N1 T pl n ks (upd Im 7 x) Am1 := by
  obtain ⟨⟨v, p1, p2, p3, p4, p5⟩, ja, ji, -, jt, jq, j1, j2⟩ := h
  obtain ⟨e0, e2, e8, e22⟩ := e
  refine ⟨⟨v, by rw [e0]; exact p1, p2, p3, CV_congr (I := sh 200 I) (A := sh 200 A) ⟨rfl, rfl, rfl⟩ ⟨fun _ _ => rfl, fun _ _ => ⟨rfl, rfl⟩, fun _ _ => ⟨rfl, rfl, rfl, rfl, rfl⟩⟩ p4, p5⟩, ?_, ?_, hn, ?_, ?_, ?_, ?_⟩
  · rw [e0]
    exact JA_c ja rfl rfl (fun _ _ => rfl)
  · rw [e0, e2]
    exact ji
  · rw [e8]
    exact jt
  · rw [e22]
    exact jq
  · rw [upd_s, upd_s]
  · exact j2
theorem isR (a : Int32) : (x_isRow a = some 0 ∧ m_isRow a = some 0) ∨ ∃ k, k < 8 ∧ a = nI k ∧ x_isRow a = some 1 ∧ m_isRow a = some 1 := by
  rcases in_ab a (L := 0) (H := 7) 0 7 rfl rfl (by decide) with g | ⟨k, -, hk, rfl, g⟩
  · exact Or.inl ⟨by simp only [x_isRow, g, o1n] <;> rfl, by simp only [m_isRow, m_in_x, g, o1n] <;> rfl⟩
  · exact Or.inr ⟨k, by omega, rfl, by simp only [x_isRow, g, o1n] <;> rfl, by simp only [m_isRow, m_in_x, g, o1n] <;> rfl⟩
theorem ng0 {z : Nat} (h : z ≤ 2) : (0 : Int32) ≤ nI z := nI_le (a := 0) (by omega) (by omega)
theorem eq_drop (h : JR I A R P N T pl n ks Im Am) (a : Int32) : ∃ r I1 N1 Im1 Am1, h_drop I A R P N T pl n ks a = some (r, I1, N1) ∧ m_drop Im Am a = some (r, Im1, Am1) ∧ JR I1 A R P N1 T pl n ks Im1 Am1 := by
  have hh := h
  obtain ⟨-, -, -, jw, -⟩ := h
  have nz : ¬ (1 : Int32) = 0 := by decide
  rcases isR a with ⟨g1, g2⟩ | ⟨k, hk, rfl, g1, g2⟩
  · exact ⟨_, _, _, _, _, by rw [h_drop, g1, o1n, if_pos rfl], by rw [m_drop, g2, o1n, if_pos rfl], hh⟩
  have sl := slI (lo := 0) (M := 8) (i := nI k) rfl hk (by decide)
  rw [Nat.zero_add] at sl
  rcases jw k hk with ⟨p1, p2⟩ | ⟨z, m, e, p1, z2, m40, p2, p3, p4⟩
  · have l3 : ldO (Am 3) 8 (nI k) = _ := ldN rfl hk (by decide) p2
    refine ⟨(-1000010) - 1, upd I 110 1, N, upd Im 7 1, Am, ?_, ?_, JR_rw hh jw ⟨rfl, rfl, rfl, rfl⟩⟩
    · rw [h_drop, g1, o1n, if_neg nz, sl, o1n, p1, if_neg (show ¬ (none : Option Rw_).isSome = true from Bool.false_ne_true)]
    · rw [m_drop, g2, o1n, if_neg nz, l3, o1n, if_neg (show ¬ (0 : Int32) ≤ -1 by decide), m_found, o3n]
  · have l3 : ldO (Am 3) 8 (nI k) = _ := ldN rfl hk (by decide) p2
    have s3 : stO (Am 3) 8 (nI k) (-1) = _ := stN _ rfl hk (by decide)
    have l4 : ldO (Am 4) 8 (nI k) = _ := ldN rfl hk (by decide) p3
    refine ⟨nI m, upd I 110 0, va_up N k none, upd Im 7 0, va_up Am 3 (upd (Am 3) k (-1)), ?_, ?_, JR_rw hh (fun j hj => ?_) ⟨rfl, rfl, rfl, rfl⟩⟩
    · rw [h_drop, g1, o1n, if_neg nz, sl, o1n, p1, if_pos (show (some (nI z, m, e) : Option Rw_).isSome = true from rfl), o1n, x_well, o2n]
    · rw [m_drop, g2, o1n, if_neg nz, l3, o1n, if_pos (ng0 z2), s3, o1n, va_up_ne _ _ (show 4 ≠ 3 by decide), l4, o1n, m_well, o3n]
    · by_cases q : j = k
      · subst q
        exact Or.inl ⟨va_up_self _ _ _, by rw [va_up_self, upd_s]⟩
      · rw [va_up_ne _ _ q, va_up_self, upd_n _ _ q]
        exact jw j hj
theorem lenN {a : Int32} {m : Nat} (ha : a = nI m) (hm : m ≤ 40) : lenO a = some m := by
  subst ha
  unfold lenO
  rw [if_neg, nI_clamp (by omega)]
  rintro (z | z)
  · exact ltz (by omega) z
  · have z : nI 40 < nI m := z
    rw [ltL (by decide) (by omega)] at z
    omega
theorem clr_row (J : Nat → Int32) (B : Nat → Nat → Int32) {k : Nat} (hk : k < 8) (x : Int32) : ∃ C y, m_row_L55 (nI k) x NF J B 0 = some (J, C, y) ∧ (∀ i, i < 40 → C 5 (40 * k + i) = 0) ∧ (∀ i, (i < 40 * k ∨ 40 * k + 40 ≤ i) → C 5 i = B 5 i) ∧ ∀ i, i ≠ 5 → C i = B i := by
  have hr := lp_rel (fun f (s : (Nat → Int32) × (Nat → Nat → Int32) × Int32) => m_row_L55 (nI k) x f s.1 s.2.1 s.2.2) (fun j s => s.1 = J ∧ s.2.2 = nI j ∧ (∀ i, i < j → s.2.1 5 (40 * k + i) = 0) ∧ (∀ i, (i < 40 * k ∨ 40 * k + 40 ≤ i) → s.2.1 5 i = B 5 i) ∧ ∀ i, i ≠ 5 → s.2.1 i = B i) 40 (fun s => s.1 = J ∧ (∀ i, i < 40 → s.2.1 5 (40 * k + i) = 0) ∧ (∀ i, (i < 40 * k ∨ 40 * k + 40 ≤ i) → s.2.1 5 i = B 5 i) ∧ ∀ i, i ≠ 5 → s.2.1 i = B i)
    (fun f s hs => by
      obtain ⟨K, C, y⟩ := s
      obtain ⟨rfl, rfl, h1, h2, h3⟩ := hs
      exact ⟨(K, C, nI 40), rfl, rfl, h1, h2, h3⟩)
    (fun f j s hj hs => by
      obtain ⟨K, C, y⟩ := s
      obtain ⟨rfl, rfl, h1, h2, h3⟩ := hs
      have h1 : ∀ i, i < j → C 5 (40 * k + i) = 0 := h1
      have h2 : ∀ i, (i < 40 * k ∨ 40 * k + 40 ≤ i) → C 5 i = B 5 i := h2
      have st : stO (C 5) 320 (40 * nI k + nI j) 0 = _ := stN 0 (k := 40 * k + j) (by rw [show (40 : Int32) = nI 40 from rfl, pk_mul, nI_add]) (by omega) (by decide)
      refine Or.inl ⟨(K, va_up C 5 (upd (C 5) (40 * k + j) 0), nI (j + 1)), ⟨rfl, rfl, fun i hi => ?_, fun i hi => ?_, fun i hi => (va_up_ne _ _ hi).trans (h3 i hi)⟩, ?_⟩
      · show upd (C 5) _ _ _ = _
        by_cases q : i = j
        · rw [q, upd_s]
        · rw [upd_n _ _ (by omega)]
          exact h1 i (by omega)
      · show upd (C 5) _ _ _ = _
        rw [upd_n _ _ (by omega)]
        exact h2 i hi
      · simp only [m_row_L55, st, o1n]
        rw [if_neg (show ¬ (40 : Int32) ≤ nI j from nI_ge (b := 40) hj (by decide)), nI_1]) NF (J, B, 0) (NFb (by omega)) ⟨rfl, rfl, fun i hi => absurd hi (by omega), fun _ _ => rfl, fun _ _ => rfl⟩
  obtain ⟨⟨K, C, y⟩, g1, rfl, g2, g3, g4⟩ := hr
  exact ⟨C, y, g1, g2, g3, g4⟩
theorem eq_row (h : JR I A R P N T pl n ks Im Am) (a b c : Int32) : ∃ r I1 N1 Im1 Am1, h_row I A R P N T pl n ks a b c = some (r, I1, N1) ∧ m_row Im Am a b c = some (r, Im1, Am1) ∧ JR I1 A R P N1 T pl n ks Im1 Am1 := by
  have hh := h
  obtain ⟨-, -, -, jw, -⟩ := h
  have nz : ¬ (1 : Int32) = 0 := by decide
  rcases isR a with ⟨g1, g2⟩ | ⟨k, hk, rfl, g1, g2⟩
  · exact ⟨_, _, _, _, _, by rw [h_row, g1, o1n, if_pos rfl], by rw [m_row, g2, o1n, if_pos rfl], hh⟩
  rcases in_ab b (L := 0) (H := 2) 0 2 rfl rfl (by decide) with g3 | ⟨z, -, hz, rfl, g3⟩
  · exact ⟨_, _, _, _, _, by rw [h_row, g1, o1n, if_neg nz, g3, o1n, if_pos rfl], by rw [m_row, g2, o1n, if_neg nz, m_in_x, g3, o1n, if_pos rfl], hh⟩
  rw [h_row, m_row, g1, g2, o1n, o1n, if_neg nz, if_neg nz, m_in_x, g3, o1n, o1n, if_neg nz, if_neg nz]
  by_cases c40 : c ≤ 40
  · rw [if_pos c40, if_pos c40]
    by_cases c0 : c < 0
    · rw [if_pos c0, o1n, if_pos rfl, if_neg (Int32.not_le.mpr c0)]
      exact ⟨_, upd I 110 4, N, upd Im 7 4, Am, rfl, by rw [m_found, o3n], JR_rw hh jw ⟨rfl, rfl, rfl, rfl⟩⟩
    · obtain ⟨m, hm, rfl⟩ := nI_of (x := c) c0
      have m40 : m ≤ 40 := by
        have q : nI m ≤ nI 40 := c40
        rw [leL hm (by decide)] at q
        exact q
      have sl := slI (lo := 0) (M := 8) (i := nI k) rfl hk (by decide)
      rw [Nat.zero_add] at sl
      have s3 : stO (Am 3) 8 (nI k) (nI z) = _ := stN _ rfl hk (by decide)
      have s4 : stO (Am 4) 8 (nI k) (nI m) = _ := stN _ rfl hk (by decide)
      obtain ⟨C, y, m1, m2, m3, m4⟩ := clr_row Im (va_up (va_up Am 3 (upd (Am 3) k (nI z))) 4 (upd (Am 4) k (nI m))) hk (nI m)
      rw [if_neg c0, o1n, if_neg nz, if_pos (Int32.not_lt.mp c0), sl, o1n, lenN rfl m40, o1n, x_well, o2n, s3, o1n, va_up_ne _ _ (show 4 ≠ 3 by decide), s4, o1n, m1, o3n, m_well, o3n]
      refine ⟨nI m, upd I 110 0, va_up N k (some (nI z, m, fun _ => 0)), upd Im 7 0, C, rfl, rfl, JR_rw hh (fun j hj => ?_) ⟨m4 0 (by decide), m4 2 (by decide), m4 8 (by decide), m4 22 (by decide)⟩⟩
      rw [m4 3 (by decide), m4 4 (by decide)]
      show (_ ∧ upd (Am 3) k (nI z) j = -1) ∨ ∃ z' m' e', _ ∧ _ ∧ _ ∧ upd (Am 3) k (nI z) j = nI z' ∧ upd (Am 4) k (nI m) j = nI m' ∧ _
      by_cases q : j = k
      · subst q
        exact Or.inr ⟨z, m, fun _ => 0, va_up_self _ _ _, hz, m40, upd_s _ _ _, upd_s _ _ _, fun i hi => m2 i (by omega)⟩
      · rw [va_up_ne _ _ q, upd_n _ _ q, upd_n _ _ q]
        rcases jw j hj with w | ⟨z', m', e', w1, w2, w3, w4, w5, w6⟩
        · exact Or.inl w
        · exact Or.inr ⟨z', m', e', w1, w2, w3, w4, w5, fun i hi => (m3 _ (by omega)).trans (w6 i hi)⟩
  · rw [if_neg c40, if_neg c40]
    exact ⟨_, _, _, _, _, rfl, rfl, hh⟩
theorem eq_trace (h : JR I A R P N T pl n ks Im Am) (a : Int32) : ∃ r, h_trace I A R P N T pl n ks a = some r ∧ m_trace Im Am a = some r := by
  obtain ⟨-, -, -, -, -, ⟨q, q1, q2, q3, q4⟩, -⟩ := h
  rw [h_trace, m_trace, m_in_x, q2, q3]
  rcases in_cnt a q (by omega) with g | ⟨k, hk, rfl, g⟩
  · simp only [g, o1n, n00, if_true]
    exact ⟨_, rfl, rfl⟩
  · rw [g, o1n, o1n, if_neg (show ¬ (1 : Int32) = 0 by decide), if_neg (show ¬ (1 : Int32) = 0 by decide), ldN rfl (show k < 16 by omega) (by decide) (q4 k hk), ldN rfl (show k < 16 by omega) (by decide) rfl]
    simp only [o1n]
    exact ⟨_, rfl, rfl⟩
theorem eq_feed {G : Nat → Nat → Option Nat} (h : JR I A R P N T pl n ks Im Am) (a : Int32) : ∃ r I1 A1 Im1 Am1, x_feed I A R G pl n ks a = some (r, I1, A1) ∧ m_feed Im Am a = some (r, Im1, Am1) ∧ JR I1 A1 R P N T pl n ks Im1 Am1 := by
  have hh := h
  obtain ⟨⟨v, p1, p2, p3, p4, p5⟩, ja, ji, jw, ⟨t, t1, t2, t3, t4⟩, jq, j1, j2⟩ := h
  have nz : ¬ (1 : Int32) = 0 := by decide
  rcases in_ab a (L := 0) (H := 255) 0 255 rfl rfl (by decide) with g | ⟨b, -, hb, rfl, g⟩
  · exact ⟨_, _, _, _, _, by rw [x_feed, g, o1n, if_pos rfl], by rw [m_feed, m_in_x, g, o1n, if_pos rfl], hh⟩
  have c : (nI t = (120 : Int32)) = _ := eqL 120 (by omega) (by decide)
  rw [x_feed, m_feed, m_in_x, g, o1n, o1n, if_neg nz, if_neg nz]
  by_cases q : t = 120
  · rw [if_pos (show I 102 = 120 by rw [t2]; exact c ▸ q), if_pos (show Im 9 = 120 by rw [t3]; exact c ▸ q)]
    exact ⟨_, _, _, _, _, rfl, rfl, hh⟩
  · rw [if_neg (show ¬ I 102 = 120 by rw [t2]; exact fun z => q (c ▸ z)), if_neg (show ¬ Im 9 = 120 by rw [t3]; exact fun z => q (c ▸ z)), t2, t3]
    have s1 : ∀ x : Int32, stO (A 101) 120 (nI t) x = _ := fun x => stN x rfl (show t < 120 by omega) (by decide)
    have s2 : ∀ x : Int32, stO (Am 8) 120 (nI t) x = _ := fun x => stN x rfl (show t < 120 by omega) (by decide)
    rw [s1, o1n, s2, o1n, upd_s, upd_s, nI_1]
    refine ⟨nI (t + 1), upd I 102 (nI (t + 1)), va_up A 101 (upd (A 101) t (vp_nar .byte (nI b).toInt8.toInt32)), upd Im 9 (nI (t + 1)), va_up Am 8 (upd (Am 8) t (nI b)), rfl, rfl, ⟨v, p1, p2, p3, CV_congr (I := sh 200 I) (A := sh 200 A) ⟨rfl, rfl, rfl⟩ ⟨fun _ _ => rfl, fun _ _ => ⟨rfl, rfl⟩, fun _ _ => ⟨rfl, rfl, rfl, rfl, rfl⟩⟩ p4, p5⟩, JA_c ja rfl rfl (fun _ _ => rfl), ji, jw, ⟨t + 1, by omega, upd_s _ _ _, upd_s _ _ _, fun k hk => ?_⟩, jq, j1, j2⟩
    by_cases e : k = t
    · subst e
      exact ⟨b, by omega, by rw [va_up_self, upd_s], by rw [va_up_self, upd_s]⟩
    · obtain ⟨b', b1, b2, b3⟩ := t4 k (by omega)
      exact ⟨b', b1, by rw [va_up_self, upd_n _ _ e]; exact b2, by rw [va_up_self, upd_n _ _ e]; exact b3⟩
end ROWS
