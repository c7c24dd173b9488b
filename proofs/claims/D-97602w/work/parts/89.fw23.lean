/-! PLAIN LAW: lies (behind its walk) -/
set_option maxRecDepth 100000
section LIES
variable {I Im : Nat → Int32} {A Am : Nat → Nat → Int32} {R : Nat → Option Nat} {P : Nat → Option Par} {N : Nat → Option Rw_} {T : Int32 × (Nat → Int32)} {pl n : Nat} {ks : Nat → Nat} {v : Nat → Nat}
def lie (v : Nat → Nat) (f : Nat → Int32) (p : Nat) : Bool := decide (nI (load v p) < f p)
theorem lies_x (hc : CV v (sh 200 I) (sh 200 A) n ks) (h : OKv v) (hR : R 201 = some pl) (f : Nat → Int32) : h_lies_L43 I A R pl n ks (v 6) f NF 0 0 = some (nI (msk (lie v f) (v 6)), nI (v 6)) := by
  have h6 := v_n h
  exact lp_run (fun k (s : Int32 × Int32) => h_lies_L43 I A R pl n ks (v 6) f k s.1 s.2) (fun i => (nI (msk (lie v f) i), nI i)) (v 6) (some (nI (msk (lie v f) (v 6)), nI (v 6)))
    (fun k => by
      simp only [h_lies_L43]
      rw [if_pos (nI_le (Nat.le_refl _) (by omega))])
    (fun k i hi => by
      have e : ldO f (v 6) (nI i) = some (f i) := ldN rfl hi (by omega) rfl
      simp only [h_lies_L43, load_p (R := sh 200 R) hc h hR (show i < 2 ^ 31 by omega), o1n, e, ife]
      rw [if_neg (nI_ge hi (by omega)), nI_1, ← or_msk (lie v f) (show i < 8 by omega)]
      unfold lie
      by_cases q : nI (load v i) < f i
      · rw [if_neg (Int32.not_le.mpr q), decide_eq_true q, if_pos rfl]
      · rw [if_pos (Int32.not_lt.mp q), decide_eq_false q, if_neg Bool.false_ne_true]) NF (NFb (by omega))
theorem lies_m (hw : MW v (Am 0)) (h : OKv v) {k i : Nat} (hk : k < 8) (hi : i + v 6 ≤ 40) (f : Nat → Int32) (hf : ∀ p, p < v 6 → Am 5 (40 * k + i + p) = f p) : m_lies_L50 Im Am (nI k) (nI i) NF 0 0 = some (nI (msk (lie v f) (v 6)), nI (v 6)) := by
  have h6 := v_n h
  have e6 : ldO (Am 0) 2044 6 = _ := ldW hw 6 rfl (by decide)
  exact lp_run (fun t (s : Int32 × Int32) => m_lies_L50 Im Am (nI k) (nI i) t s.1 s.2) (fun i => (nI (msk (lie v f) i), nI i)) (v 6) (some (nI (msk (lie v f) (v 6)), nI (v 6)))
    (fun t => by
      simp only [m_lies_L50, e6, o1n]
      rw [if_pos (nI_le (Nat.le_refl _) (by omega))])
    (fun t p hp => by
      have e : ldO (Am 5) 320 (40 * nI k + nI i + nI p) = some (f p) := ldN (k := 40 * k + i + p) (by rw [show (40 : Int32) = nI 40 from rfl, pk_mul, nI_add, nI_add]) (by omega) (by decide) (hf p hp)
      simp only [m_lies_L50, e6, load_m hw h (show p < 2 ^ 31 by omega), o1n, e, ife]
      rw [if_neg (nI_ge hp (by omega)), nI_1, ← or_msk (lie v f) (show p < 8 by omega)]
      unfold lie
      by_cases q : nI (load v p) < f p
      · rw [if_neg (Int32.not_le.mpr q), decide_eq_true q, if_pos rfl]
      · rw [if_pos (Int32.not_lt.mp q), decide_eq_false q, if_neg Bool.false_ne_true]) NF (NFb (by omega))
theorem eq_lies (h : JR I A R P N T pl n ks Im Am) (a b : Int32) : ∃ r I1 Im1 Am1, h_lies I A R P N T pl n ks a b = some (r, I1) ∧ m_lies Im Am a b = some (r, Im1, Am1) ∧ JR I1 A R P N T pl n ks Im1 Am1 := by
  have hh := h
  obtain ⟨⟨v, hw, ok, v8, hc, hR⟩, -, -, jw, -⟩ := h
  have h6 := v_n ok
  have nz : ¬ (1 : Int32) = 0 := by decide
  have e1 := none_m (I := Im) hw ok
  have e2 := parish_x (G := nG) hc hR ok
  by_cases c : v 6 = 0
  · rw [if_pos c] at e1 e2
    exact ⟨_, _, _, _, by rw [h_lies, e2, o1n, if_pos rfl], by rw [m_lies, e1, o1n, if_neg nz], hh⟩
  rw [if_neg c] at e1 e2
  rcases isR a with ⟨g1, g2⟩ | ⟨k, hk, rfl, g1, g2⟩
  · exact ⟨_, _, _, _, by rw [h_lies, e2, o1n, if_neg nz, g1, o1n, if_pos rfl], by rw [m_lies, e1, o1n, if_pos rfl, g2, o1n, if_pos rfl], hh⟩
  have sl := slI (lo := 0) (M := 8) (i := nI k) rfl hk (by decide)
  rw [Nat.zero_add] at sl
  have e6 : ldO (Am 0) 2044 6 = _ := ldW hw 6 rfl (by decide)
  have many := many_p (R := sh 200 R) (pl := pl) hc hR
  rw [h_lies, m_lies, e1, e2, o1n, o1n, if_neg nz, if_pos rfl, g1, g2, o1n, o1n, if_neg nz, if_neg nz, sl, o1n, e6, o1n]
  rcases jw k hk with ⟨p1, p2⟩ | ⟨z, m, e, p1, z2, m40, p2, p3, p4⟩
  · rw [p1, if_neg (show ¬ (none : Option Rw_).isSome = true from Bool.false_ne_true), ag_n hk p2, o1n, if_neg (show ¬ (1 : Int32) ≤ 0 by decide)]
    exact ⟨_, upd I 110 1, upd Im 7 1, Am, rfl, by rw [m_found, o3n], JR_rw hh jw ⟨rfl, rfl, rfl, rfl⟩⟩
  · have ga := ag (I := Im) hk p2 z2 p3 m40 b (nI (v 6))
    rw [nI_toInt (show v 6 < 2 ^ 31 by omega)] at ga
    rw [p1, if_pos (show (some (nI z, m, e) : Option Rw_).isSome = true from rfl), o1n, many, o1n, lenN rfl (show v 6 ≤ 40 by omega), o1n, ga, o1n]
    by_cases q : 0 ≤ b.toInt ∧ b.toInt + (v 6 : Nat) ≤ m
    · rw [if_pos q, if_pos (show 0 ≤ b.toInt ∧ (0 : Int) ≤ (v 6 : Nat) ∧ b.toInt + (v 6 : Nat) ≤ m from ⟨q.1, by omega, q.2⟩), if_pos (show (0 : Int32) ≤ 0 from Int32.le_refl _)]
      have hi0 := iOf q.1
      have hik := iOfk q.1 q.2
      have lx := lies_x (I := I) (A := A) (R := R) (pl := pl) hc ok hR (va_cpy e (fun _ => 0) b.toNatClampNeg 0 (v 6))
      have lm := lies_m (Im := Im) hw ok hk (i := b.toNatClampNeg) (by omega) (va_cpy e (fun _ => 0) b.toNatClampNeg 0 (v 6)) (fun p hp => by
        unfold va_cpy
        rw [if_pos (by omega), Nat.sub_zero, Nat.add_assoc]
        exact p4 _ (by omega))
      rw [← hi0] at lm
      refine ⟨nI (msk (lie v (va_cpy e (fun _ => 0) b.toNatClampNeg 0 (v 6))) (v 6)), upd I 110 0, upd Im 7 0, Am, ?_, ?_, JR_rw hh jw ⟨rfl, rfl, rfl, rfl⟩⟩
      · rw [lx, o2n, x_well, o2n]
      · rw [lm, o2n, m_well, o3n]
    · rw [if_neg q, if_neg (show ¬ (0 ≤ b.toInt ∧ (0 : Int) ≤ (v 6 : Nat) ∧ b.toInt + (v 6 : Nat) ≤ m) from fun w => q ⟨w.1, w.2.2⟩), if_neg (show ¬ (2 : Int32) ≤ 0 by decide)]
      exact ⟨_, upd I 110 2, upd Im 7 2, Am, rfl, by rw [m_found, o3n], JR_rw hh jw ⟨rfl, rfl, rfl, rfl⟩⟩
end LIES
