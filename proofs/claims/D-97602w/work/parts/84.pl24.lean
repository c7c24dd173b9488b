/-! PLAIN LAW 24: set -/
set_option maxRecDepth 100000
section ROWS2
variable {I Im : Nat → Int32} {A Am : Nat → Nat → Int32} {R : Nat → Option Nat} {P : Nat → Option Par} {N : Nat → Option Rw_} {T : Int32 × (Nat → Int32)} {pl n : Nat} {ks : Nat → Nat}
theorem ag_n {k : Nat} (hk : k < 8) (e3 : A 3 k = -1) (a c : Int32) : m_against I A (nI k) a c = some 1 := by
  rw [m_against, ldN rfl hk (by decide) e3, o1n, if_neg (show ¬ (0 : Int32) ≤ -1 by decide), o1n]
theorem neg_i {a : Int32} : (a < 0) = (a.toInt < 0) := propext Int32.lt_iff_toInt_lt
theorem ag {k z m : Nat} (hk : k < 8) (e3 : A 3 k = nI z) (z2 : z ≤ 2) (e4 : A 4 k = nI m) (m40 : m ≤ 40) (a c : Int32) : m_against I A (nI k) a c = some (if 0 ≤ a.toInt ∧ 0 ≤ c.toInt ∧ a.toInt + c.toInt ≤ m then 0 else 2) := by
  rw [m_against, ldN rfl hk (by decide) e3, o1n, if_pos (ng0 z2)]
  by_cases ha : a < 0
  · have : a.toInt < 0 := by rw [neg_i] at ha; exact ha
    rw [if_pos ha, o1n, if_neg (by omega)]
  · by_cases hc : c < 0
    · have : c.toInt < 0 := by rw [neg_i] at hc; exact hc
      rw [if_neg ha, if_pos hc, o1n, if_neg (by omega)]
    · obtain ⟨i, hi, rfl⟩ := nI_of ha
      obtain ⟨j, hj, rfl⟩ := nI_of hc
      rw [if_neg ha, if_neg hc, ldN rfl hk (by decide) e4, o1n, nI_l hi, nI_l hj, nI_l (show m < 2 ^ 31 by omega), lN_add, nI_toInt hi, nI_toInt hj]
      have g : (0 < lg_cmp (lN (i + j)) (lN m)) = (m < i + j) := by
        rw [l_gt, pk_lT (by omega), pk_lT (by omega)]
        exact propext ⟨fun h => by omega, fun h => by omega⟩
      by_cases q : m < i + j
      · rw [if_neg (Int32.not_le.mpr (g ▸ q)), o1n, if_neg (by omega)]
      · rw [if_pos (Int32.not_lt.mp (fun z => q (g ▸ z))), o1n, if_pos (by omega)]
theorem inL {m : Nat} (m40 : m ≤ 40) (a : Int32) : x_isIn a.toInt64 0 ((nI m - 1).toInt64) = some (if 0 ≤ a.toInt ∧ a.toInt + 1 ≤ m then 1 else 0) := by
  rw [in_i, i64, i64, show (0 : Int64).toInt = 0 from rfl, show nI m - 1 = nI m - nI 1 from rfl, pk_sub_toInt (by omega) (by decide)]
  by_cases q : 0 ≤ a.toInt ∧ a.toInt + 1 ≤ m
  · rw [if_pos q, if_pos (by omega)]
  · rw [if_neg q, if_neg (by omega)]
theorem cut_eq : rw_cut = m_cutTo := rfl
theorem cut_some (z v : Int32) : ∃ x, m_cutTo z v = some x := by
  unfold m_cutTo
  split
  · exact ⟨_, rfl⟩
  · split <;> exact ⟨_, rfl⟩
theorem eq_set (h : JR I A R P N T pl n ks Im Am) (a b c : Int32) : ∃ r I1 N1 Im1 Am1, h_set I A R P N T pl n ks a b c = some (r, I1, N1) ∧ m_set Im Am a b c = some (r, Im1, Am1) ∧ JR I1 A R P N1 T pl n ks Im1 Am1 := by
  have hh := h
  obtain ⟨-, -, -, jw, -⟩ := h
  have nz : ¬ (1 : Int32) = 0 := by decide
  rcases isR a with ⟨g1, g2⟩ | ⟨k, hk, rfl, g1, g2⟩
  · exact ⟨_, _, _, _, _, by rw [h_set, g1, o1n, if_pos rfl], by rw [m_set, g2, o1n, if_pos rfl], hh⟩
  have sl := slI (lo := 0) (M := 8) (i := nI k) rfl hk (by decide)
  rw [Nat.zero_add] at sl
  rcases jw k hk with ⟨p1, p2⟩ | ⟨z, m, e, p1, z2, m40, p2, p3, p4⟩
  · refine ⟨(-1000010) - 1, upd I 110 1, N, upd Im 7 1, Am, ?_, ?_, JR_rw hh jw ⟨rfl, rfl, rfl, rfl⟩⟩
    · rw [h_set, g1, o1n, if_neg nz, sl, o1n, p1, if_neg (show ¬ (none : Option Rw_).isSome = true from Bool.false_ne_true)]
    · rw [m_set, g2, o1n, if_neg nz, ag_n hk p2, o1n, if_neg (show ¬ (1 : Int32) ≤ 0 by decide), m_found, o3n]
  · have ga := ag (I := Im) hk p2 z2 p3 m40 b 1
    rw [show (1 : Int32).toInt = 1 from rfl] at ga
    rw [h_set, m_set, g1, g2, o1n, o1n, if_neg nz, if_neg nz, sl, o1n, p1, if_pos (show (some (nI z, m, e) : Option Rw_).isSome = true from rfl), o1n, inL m40, ga, o1n, o1n]
    by_cases q : 0 ≤ b.toInt ∧ b.toInt + 1 ≤ m
    · rw [if_pos q, if_neg nz, if_pos (show 0 ≤ b.toInt ∧ (0 : Int) ≤ 1 ∧ b.toInt + 1 ≤ m from ⟨q.1, by decide, q.2⟩), if_pos (show (0 : Int32) ≤ 0 from Int32.le_refl _)]
      obtain ⟨i, hi, rfl⟩ := nI_of (x := b) (fun w => by rw [neg_i] at w; omega)
      rw [nI_toInt hi] at q
      have im : i < m := by omega
      obtain ⟨x, hx⟩ := cut_some (nI z) c
      have s1 : stO e m (nI i) x = _ := stN x rfl im (by omega)
      have l1 : ldO (upd e i x) m (nI i) = some x := ldN rfl im (by omega) (upd_s _ _ _)
      have ix : 40 * nI k + nI i = nI (40 * k + i) := by rw [show (40 : Int32) = nI 40 from rfl, pk_mul, nI_add]
      have s2 : stO (Am 5) 320 (40 * nI k + nI i) x = _ := stN x ix (show 40 * k + i < 320 by omega) (by decide)
      have l2 : ldO (upd (Am 5) (40 * k + i) x) 320 (40 * nI k + nI i) = some x := ldN ix (show 40 * k + i < 320 by omega) (by decide) (upd_s _ _ _)
      refine ⟨x, upd I 110 0, va_up N k (some (nI z, m, upd e i x)), upd Im 7 0, va_up Am 5 (upd (Am 5) (40 * k + i) x), ?_, ?_, JR_rw hh (fun j hj => ?_) ⟨rfl, rfl, rfl, rfl⟩⟩
      · show ob1 (rw_cut (nI z) c) _ = _
        rw [cut_eq, hx, o1n]
        show ob1 (stO e m (nI i) x) _ = _
        rw [s1, o1n]
        show ob1 (ldO (upd e i x) m (nI i)) _ = _
        rw [l1, o1n, x_well, o2n]
      · rw [ldN rfl hk (by decide) p2, o1n, hx, o1n, s2, o1n, va_up_self, l2, o1n, m_well, o3n]
      · show (_ ∧ Am 3 j = -1) ∨ ∃ (z' m' : Nat) (e' : Nat → Int32), _ ∧ _ ∧ _ ∧ Am 3 j = nI z' ∧ Am 4 j = nI m' ∧ ∀ t, t < m' → upd (Am 5) (40 * k + i) x (40 * j + t) = e' t
        by_cases w : j = k
        · subst w
          refine Or.inr ⟨z, m, upd e i x, va_up_self _ _ _, z2, m40, p2, p3, fun t ht => ?_⟩
          by_cases y : t = i
          · rw [y, upd_s, upd_s]
          · rw [upd_n _ _ y, upd_n _ _ (by omega)]
            exact p4 t ht
        · rw [va_up_ne _ _ w]
          rcases jw j hj with w1 | ⟨z', m', e', w1, w2, w3, w4, w5, w6⟩
          · exact Or.inl w1
          · exact Or.inr ⟨z', m', e', w1, w2, w3, w4, w5, fun t ht => (upd_n _ _ (by omega)).trans (w6 t ht)⟩
    · rw [if_neg q, if_pos rfl, if_neg (show ¬ (0 ≤ b.toInt ∧ (0 : Int) ≤ 1 ∧ b.toInt + 1 ≤ m) from fun w => q ⟨w.1, w.2.2⟩), if_neg (show ¬ (2 : Int32) ≤ 0 by decide)]
      exact ⟨_, upd I 110 2, N, upd Im 7 2, Am, rfl, by rw [m_found, o3n], JR_rw hh jw ⟨rfl, rfl, rfl, rfl⟩⟩
end ROWS2
