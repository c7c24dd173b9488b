/-! PLAIN LAW 18: the joint relation; what is kept ahead of an act -/
set_option maxRecDepth 100000
/-- a parish that lies in a slot, and in the model's row at a place -/
def Slt (B : Par) (w : Nat → Int32) (o : Nat) : Prop := ∃ u : Nat → Nat, OKv u ∧ u 8 ≤ 999 ∧ CV u B.1 B.2.1 B.2.2.2.1 B.2.2.2.2 ∧ ∀ i, i < 73 → w (o + i) = nI (u i)
def JP (v : Nat → Nat) (I : Nat → Int32) (A : Nat → Nat → Int32) (R : Nat → Option Nat) (pl n : Nat) (ks : Nat → Nat) (w : Nat → Int32) : Prop := MW v w ∧ OKv v ∧ v 8 ≤ 999 ∧ CV v (sh 200 I) (sh 200 A) n ks ∧ R 201 = some pl
def JA (I : Nat → Int32) (P : Nat → Option Par) (Im : Nat → Int32) (w : Nat → Int32) : Prop := ∃ a, a ≤ 24 ∧ I 107 = nI a ∧ Im 1 = nI a ∧ ∀ k, k < a → ∃ B, P k = some B ∧ Slt B w (292 + 73 * k)
def JI (P : Nat → Option Par) (w f : Nat → Int32) : Prop := ∀ k, k < 2 → (P (24 + k) = none ∧ f k = 0) ∨ ∃ B, P (24 + k) = some B ∧ f k = 1 ∧ Slt B w (73 * (k + 1))
def JW (N : Nat → Option Rw_) (f g h : Nat → Int32) : Prop := ∀ k, k < 8 → (N k = none ∧ f k = -1) ∨ ∃ z m e, N k = some (nI z, m, e) ∧ z ≤ 2 ∧ m ≤ 40 ∧ f k = nI z ∧ g k = nI m ∧ ∀ j, j < m → h (40 * k + j) = e j
def JT (I : Nat → Int32) (t1 : Nat → Int32) (Im : Nat → Int32) (t2 : Nat → Int32) : Prop := ∃ t, t ≤ 120 ∧ I 102 = nI t ∧ Im 9 = nI t ∧ ∀ k, k < t → ∃ b, b < 256 ∧ t2 k = nI b ∧ t1 k = vp_nar .byte (nI b).toInt8.toInt32
def JQ (T : Int32 × (Nat → Int32)) (Im : Nat → Int32) (t : Nat → Int32) : Prop := ∃ q, q ≤ 16 ∧ T.1 = nI q ∧ Im 23 = nI q ∧ ∀ k, k < q → T.2 k = t k
def JR (I : Nat → Int32) (A : Nat → Nat → Int32) (R : Nat → Option Nat) (P : Nat → Option Par) (N : Nat → Option Rw_) (T : Int32 × (Nat → Int32)) (pl n : Nat) (ks : Nat → Nat) (Im : Nat → Int32) (Am : Nat → Nat → Int32) : Prop := (∃ v, JP v I A R pl n ks (Am 0)) ∧ JA I P Im (Am 0) ∧ JI P (Am 0) (Am 2) ∧ JW N (Am 3) (Am 4) (Am 5) ∧ JT I (A 101) Im (Am 8) ∧ JQ T Im (Am 22) ∧ I 110 = Im 7 ∧ I 103 = Im 10
theorem Slot_w {B : Par} {w x : Nat → Int32} {o : Nat} (h : Slt B w o) (e : ∀ i, o ≤ i → i < o + 73 → x i = w i) : Slt B x o := by
  obtain ⟨u, h1, h2, h3, h4⟩ := h
  exact ⟨u, h1, h2, h3, fun i hi => (e (o + i) (by omega) (by omega)).trans (h4 i hi)⟩
theorem JA_c {I I1 : Nat → Int32} {P : Nat → Option Par} {Im Im1 w x : Nat → Int32} (h : JA I P Im w) (hI : I1 107 = I 107) (hm : Im1 1 = Im 1) (e : ∀ i, 292 ≤ i → x i = w i) : JA I1 P Im1 x := by
  obtain ⟨a, h1, h2, h3, h4⟩ := h
  refine ⟨a, h1, hI.trans h2, hm.trans h3, fun k hk => ?_⟩
  obtain ⟨B, g1, g2⟩ := h4 k hk
  exact ⟨B, g1, Slot_w g2 (fun i h _ => e i (by omega))⟩
theorem JI_c {P P1 : Nat → Option Par} {w x f : Nat → Int32} (h : JI P w f) (hP : ∀ k, 24 ≤ k → P1 k = P k) (e : ∀ i, 73 ≤ i → i < 219 → x i = w i) : JI P1 x f := by
  intro k hk
  rw [hP (24 + k) (by omega)]
  rcases h k hk with g | ⟨B, g1, g2, g3⟩
  · exact Or.inl g
  · exact Or.inr ⟨B, g1, g2, Slot_w g3 (fun i h1 h2 => e i (by omega) (by omega))⟩
theorem JR_kc {I I1 : Nat → Int32} {A A1 : Nat → Nat → Int32} {R R1 : Nat → Option Nat} {P : Nat → Option Par} {N : Nat → Option Rw_} {T : Int32 × (Nat → Int32)} {pl n : Nat} {ks : Nat → Nat} {Im Im1 : Nat → Int32} {Am Am1 : Nat → Nat → Int32} (h : JR I A R P N T pl n ks Im Am) (kc : KC I I1 A A1 R R1) (km : KM Im Im1 Am Am1) : JR I1 A1 R1 P N T pl n ks Im1 Am1 := by
  obtain ⟨⟨v, p1, p2, p3, p4, p5⟩, ja, ji, jw, jt, jq, j1, j2⟩ := h
  obtain ⟨k1, k2, k3⟩ := km
  have c := fun i h1 h2 => kc i h1 h2
  refine ⟨⟨v, fun i hi => (k2 i).trans (p1 i hi), p2, p3, KC_cv kc p4, (c 201 (by decide) (by decide)).2.2.trans p5⟩, JA_c ja (c 107 (by decide) (by decide)).1 (k1 1) (fun i _ => k2 i), ?_, ?_, ?_, ?_, ?_, ?_⟩
  · rw [k3 2 (by decide) (by decide)]
    exact JI_c ji (fun _ _ => rfl) (fun i _ _ => k2 i)
  · rw [k3 3 (by decide) (by decide), k3 4 (by decide) (by decide), k3 5 (by decide) (by decide)]
    exact jw
  · obtain ⟨t, t1, t2, t3, t4⟩ := jt
    rw [k3 8 (by decide) (by decide), (c 101 (by decide) (by decide)).2.1]
    exact ⟨t, t1, (c 102 (by decide) (by decide)).1.trans t2, (k1 9).trans t3, t4⟩
  · obtain ⟨q, q1, q2, q3, q4⟩ := jq
    rw [k3 22 (by decide) (by decide)]
    exact ⟨q, q1, q2, (k1 23).trans q3, q4⟩
  · rw [(c 110 (by decide) (by decide)).1, k1]
    exact j1
  · rw [(c 103 (by decide) (by decide)).1, k1]
    exact j2
section MINDS
variable {I Im : Nat → Int32} {A Am : Nat → Nat → Int32} {P : Nat → Option Par}
theorem minds_cp (J : Nat → Int32) (B : Nat → Nat → Int32) {a : Nat} (ha : a < 24) (hJ : J 1 = nI a) : ∃ C y, m_minds_L59 NF J B 0 = some (J, C, y) ∧ (∀ i, i < 73 → C 0 (292 + 73 * a + i) = B 0 i) ∧ (∀ i, (i < 292 + 73 * a ∨ 292 + 73 * a + 73 ≤ i) → C 0 i = B 0 i) ∧ ∀ i, i ≠ 0 → C i = B i := by
  have hr := lp_rel (fun k (s : (Nat → Int32) × (Nat → Nat → Int32) × Int32) => m_minds_L59 k s.1 s.2.1 s.2.2) (fun j s => s.1 = J ∧ s.2.2 = nI j ∧ (∀ i, i < j → s.2.1 0 (292 + 73 * a + i) = B 0 i) ∧ (∀ i, (i < 292 + 73 * a ∨ 292 + 73 * a + j ≤ i) → s.2.1 0 i = B 0 i) ∧ ∀ i, i ≠ 0 → s.2.1 i = B i) 73 (fun s => s.1 = J ∧ (∀ i, i < 73 → s.2.1 0 (292 + 73 * a + i) = B 0 i) ∧ (∀ i, (i < 292 + 73 * a ∨ 292 + 73 * a + 73 ≤ i) → s.2.1 0 i = B 0 i) ∧ ∀ i, i ≠ 0 → s.2.1 i = B i)
    (fun k s hs => by
      obtain ⟨K, C, x⟩ := s
      obtain ⟨rfl, rfl, h1, h2, h3⟩ := hs
      exact ⟨(K, C, nI 73), rfl, rfl, h1, h2, h3⟩)
    (fun k j s hj hs => by
      obtain ⟨K, C, x⟩ := s
      obtain ⟨rfl, rfl, h1, h2, h3⟩ := hs
      have h1 : ∀ i, i < j → C 0 (292 + 73 * a + i) = B 0 i := h1
      have h2 : ∀ i, (i < 292 + 73 * a ∨ 292 + 73 * a + j ≤ i) → C 0 i = B 0 i := h2
      have e : ldO (C 0) 2044 (nI j) = some (B 0 j) := ldN rfl (by omega) (by decide) (h2 j (by omega))
      have ix : 292 + 73 * K 1 + nI j = nI (292 + 73 * a + j) := by
        have hJ : K 1 = nI a := hJ
        rw [hJ, show (73 : Int32) = nI 73 from rfl, pk_mul, show (292 : Int32) = nI 292 from rfl, nI_add, nI_add]
      have st : ∀ x : Int32, stO (C 0) 2044 (292 + 73 * K 1 + nI j) x = _ := fun x => stN x ix (show 292 + 73 * a + j < 2044 by omega) (by decide)
      refine Or.inl ⟨(K, va_up C 0 (upd (C 0) (292 + 73 * a + j) (B 0 j)), nI (j + 1)), ⟨rfl, rfl, fun i hi => ?_, fun i hi => ?_, fun i hi => (va_up_ne _ _ hi).trans (h3 i hi)⟩, ?_⟩
      · show upd (C 0) _ _ _ = _
        by_cases q : i = j
        · rw [q, upd_s]
        · rw [upd_n _ _ (by omega)]
          exact h1 i (by omega)
      · show upd (C 0) _ _ _ = _
        rw [upd_n _ _ (by omega)]
        exact h2 i (by omega)
      · simp only [m_minds_L59, e, o1n, st]
        rw [if_neg (show ¬ (73 : Int32) ≤ nI j from nI_ge (b := 73) hj (by decide)), nI_1]) NF (J, B, 0) (NFb (by omega)) ⟨rfl, rfl, fun i hi => absurd hi (by omega), fun _ _ => rfl, fun _ _ => rfl⟩
  obtain ⟨⟨K, C, y⟩, g1, rfl, g2, g3, g4⟩ := hr
  exact ⟨C, y, g1, g2, g3, g4⟩
theorem minds_sh (J : Nat → Int32) (B : Nat → Nat → Int32) : ∃ C y, m_minds_L11 NF J B 0 = some (J, C, y) ∧ (∀ i, i < 1679 → C 0 (292 + i) = B 0 (292 + i + 73)) ∧ (∀ i, (i < 292 ∨ 1971 ≤ i) → C 0 i = B 0 i) ∧ ∀ i, i ≠ 0 → C i = B i := by
  have hr := lp_rel (fun k (s : (Nat → Int32) × (Nat → Nat → Int32) × Int32) => m_minds_L11 k s.1 s.2.1 s.2.2) (fun j s => s.1 = J ∧ s.2.2 = nI j ∧ (∀ i, i < j → s.2.1 0 (292 + i) = B 0 (292 + i + 73)) ∧ (∀ i, (i < 292 ∨ 292 + j ≤ i) → s.2.1 0 i = B 0 i) ∧ ∀ i, i ≠ 0 → s.2.1 i = B i) 1679 (fun s => s.1 = J ∧ (∀ i, i < 1679 → s.2.1 0 (292 + i) = B 0 (292 + i + 73)) ∧ (∀ i, (i < 292 ∨ 1971 ≤ i) → s.2.1 0 i = B 0 i) ∧ ∀ i, i ≠ 0 → s.2.1 i = B i)
    (fun k s hs => by
      obtain ⟨K, C, x⟩ := s
      obtain ⟨rfl, rfl, h1, h2, h3⟩ := hs
      exact ⟨(K, C, nI 1679), rfl, rfl, h1, h2, h3⟩)
    (fun k j s hj hs => by
      obtain ⟨K, C, x⟩ := s
      obtain ⟨rfl, rfl, h1, h2, h3⟩ := hs
      have h1 : ∀ i, i < j → C 0 (292 + i) = B 0 (292 + i + 73) := h1
      have h2 : ∀ i, (i < 292 ∨ 292 + j ≤ i) → C 0 i = B 0 i := h2
      have e : ldO (C 0) 2044 (292 + nI j + 73) = some (B 0 (292 + j + 73)) := ldN (k := 292 + j + 73) (by rw [show (292 : Int32) = nI 292 from rfl, nI_add]; exact nI_add (292 + j) 73) (by omega) (by decide) (h2 _ (by omega))
      have st : ∀ x : Int32, stO (C 0) 2044 (292 + nI j) x = _ := fun x => stN x (nI_add 292 j) (show 292 + j < 2044 by omega) (by decide)
      refine Or.inl ⟨(K, va_up C 0 (upd (C 0) (292 + j) (B 0 (292 + j + 73))), nI (j + 1)), ⟨rfl, rfl, fun i hi => ?_, fun i hi => ?_, fun i hi => (va_up_ne _ _ hi).trans (h3 i hi)⟩, ?_⟩
      · show upd (C 0) _ _ _ = _
        by_cases q : i = j
        · rw [q, upd_s]
        · rw [upd_n _ _ (by omega)]
          exact h1 i (by omega)
      · show upd (C 0) _ _ _ = _
        rw [upd_n _ _ (by omega)]
        exact h2 i (by omega)
      · simp only [m_minds_L11, e, o1n, st]
        rw [if_neg (show ¬ (1679 : Int32) ≤ nI j from nI_ge (b := 1679) hj (by decide)), nI_1]) NF (J, B, 0) (NFb (by omega)) ⟨rfl, rfl, fun i hi => absurd hi (by omega), fun _ _ => rfl, fun _ _ => rfl⟩
  obtain ⟨⟨K, C, y⟩, g1, rfl, g2, g3, g4⟩ := hr
  exact ⟨C, y, g1, g2, g3, g4⟩
theorem minds_j {v : Nat → Nat} {pl n : Nat} {ks : Nat → Nat} {R : Nat → Option Nat} (hp : JP v I A R pl n ks (Am 0)) (ha : JA I P Im (Am 0)) : ∃ (a : Nat) (P1 : Nat → Option Par) (Am1 : Nat → Nat → Int32), a ≤ 24 ∧ keepO I A P (pl, n, ks) (I 107).toNatClampNeg = some (upd I 107 (nI a), P1) ∧ m_minds Im Am = some (upd Im 1 (nI a), Am1) ∧ JA (upd I 107 (nI a)) P1 (upd Im 1 (nI a)) (Am1 0) ∧ (∀ i, i < 292 → Am1 0 i = Am 0 i) ∧ (∀ i, i ≠ 0 → Am1 i = Am i) ∧ ∀ k, 24 ≤ k → P1 k = P k := by
  obtain ⟨h1, h2, h3, h4, h5⟩ := hp
  obtain ⟨a, a1, a2, a3, a4⟩ := ha
  have cl : (I 107).toNatClampNeg = a := by rw [a2]; exact nI_clamp (by omega)
  rw [cl]
  by_cases c : a < 24
  · have ne : ¬ nI a = (24 : Int32) := by
      rw [show (24 : Int32) = nI 24 from rfl, eqL 24 (by omega) (by decide)]
      omega
    obtain ⟨C, y, m1, m2, m3, m4⟩ := minds_cp Im Am c a3
    refine ⟨a + 1, kpS P a I A (pl, n, ks), C, by omega, ?_, ?_, ⟨a + 1, by omega, upd_s _ _ _, upd_s _ _ _, fun k hk => ?_⟩, fun i hi => m3 i (by omega), m4, fun k hk => va_up_ne _ _ (by omega)⟩
    · unfold keepO
      rw [if_pos a2, if_pos c]
    · rw [m_minds, a3, if_neg ne, o2n, m1, o3n, a3, nI_1]
    · by_cases q : k = a
      · subst q
        refine ⟨_, va_up_self _ _ _, v, h2, h3, bec_cv h4, fun i hi => (m2 i hi).trans (h1 i hi)⟩
      · obtain ⟨B, b1, b2⟩ := a4 k (by omega)
        exact ⟨B, (va_up_ne _ _ q).trans b1, Slot_w b2 (fun i q1 q2 => m3 i (by omega))⟩
  · obtain rfl : a = 24 := by omega
    obtain ⟨C, y, m1, m2, m3, m4⟩ := minds_sh Im Am
    obtain ⟨E, z, n1, n2, n3, n4⟩ := minds_cp (upd Im 1 (nI 23)) C (a := 23) (by decide) (upd_s _ _ _)
    have all : (List.range 24).all (fun k => (P k).isSome) = true := by
      rw [List.all_eq_true]
      intro k hk
      obtain ⟨B, b1, -⟩ := a4 k (List.mem_range.mp hk)
      rw [b1]
      rfl
    refine ⟨24, kpS (fun k => P (rt k)) 23 I A (pl, n, ks), E, Nat.le_refl _, ?_, ?_, ⟨24, Nat.le_refl _, upd_s _ _ _, upd_s _ _ _, fun k hk => ?_⟩, fun i hi => (n3 i (by omega)).trans (m3 i (by omega)), fun i hi => (n4 i hi).trans (m4 i hi), fun k hk => ?_⟩
    · unfold keepO
      rw [if_pos a2, if_neg (by omega), if_pos ⟨rfl, all⟩]
      rfl
    · rw [m_minds, a3, if_pos (show nI 24 = 24 from rfl), m1, o3n, o2n, a3, show nI 24 - 1 = nI 23 from rfl, n1, o3n, upd_s, show nI 23 + 1 = nI 24 from rfl]
      have : upd (upd Im 1 (nI 23)) 1 (nI 24) = upd Im 1 (nI 24) := by
        funext i
        by_cases e : i = 1
        · rw [e, upd_s, upd_s]
        · rw [upd_n _ _ e, upd_n _ _ e, upd_n _ _ e]
      rw [this]
    · by_cases q : k = 23
      · subst q
        refine ⟨_, va_up_self _ _ _, v, h2, h3, bec_cv h4, fun i hi => ((n2 i hi).trans (m3 i (by omega))).trans (h1 i hi)⟩
      · obtain ⟨B, b1, b2⟩ := a4 (k + 1) (by omega)
        refine ⟨B, (va_up_ne _ _ q).trans ?_, ?_⟩
        · have : rt k = k + 1 := by unfold rt; split <;> first | omega | rfl | (split <;> omega)
          show P (rt k) = some B
          rw [this]
          exact b1
        · obtain ⟨u, u1, u2, u3, u4⟩ := b2
          refine ⟨u, u1, u2, u3, fun i hi => ?_⟩
          rw [n3 _ (by omega), show 292 + 73 * k + i = 292 + (73 * k + i) by omega, m2 _ (by omega), show 292 + (73 * k + i) + 73 = 292 + 73 * (k + 1) + i by omega]
          exact u4 i hi
    · show va_up (fun k => P (rt k)) 23 _ k = P k
      rw [va_up_ne _ _ (by omega)]
      have : rt k = k := by unfold rt; split <;> first | omega | rfl | (split <;> omega)
      show P (rt k) = P k
      rw [this]
end MINDS
