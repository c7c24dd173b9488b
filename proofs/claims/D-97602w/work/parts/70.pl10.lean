/-! PLAIN LAW 10: scale -/
set_option maxRecDepth 100000
def dst (h s : Nat) : Nat := if s ≤ 2 * h then 2 * h - s else s - 2 * h
theorem dst_le {h s : Nat} (hh : h < 1000) (hs : s < 1000) : dst h s < 5000 := by
  unfold dst
  split <;> omega
theorem neg_sub' (a b : Int32) : -(a - b) = b - a := by
  apply Int32.toBitVec_inj.mp
  simp [BitVec.neg_sub, BitVec.sub_eq_add_neg, BitVec.add_comm]
theorem ge0 {a b : Nat} (ha : a < 2 ^ 30) (hb : b < 2 ^ 30) : (0 ≤ nI a - nI b) = (b ≤ a) := by
  refine propext ?_
  rw [Int32.le_iff_toInt_le, pk_sub_toInt ha hb]
  show (0 : Int) ≤ _ ↔ _
  omega
theorem zsub' (a b : Int32) : 0 - (a - b) = b - a := by
  apply Int32.toBitVec_inj.mp
  simp [BitVec.neg_sub, BitVec.sub_eq_add_neg, BitVec.add_comm]
theorem ab_d {h s : Nat} (hh : h < 1000) (hs : s < 1000) : abI (2 * nI h - nI s) = nI (dst h s) := by
  have t2 : (2 : Int32) * nI h = nI (2 * h) := pk_mul 2 _
  rw [t2]
  unfold abI dst
  have c := ge0 (a := 2 * h) (b := s) (by omega) (by omega)
  simp only [c]
  by_cases q : s ≤ 2 * h
  · rw [if_pos q, if_pos q, pk_sub q]
  · rw [if_neg q, if_neg q, zsub', pk_sub (by omega)]
theorem pl_d {h s : Nat} (hh : h < 1000) (hs : s < 1000) : m_plain (2 * nI h - nI s) = some (nI (dst h s)) := by
  have t2 : (2 : Int32) * nI h = nI (2 * h) := pk_mul 2 _
  rw [t2]
  unfold dst
  have c := ge0 (a := 2 * h) (b := s) (by omega) (by omega)
  simp only [m_plain, c]
  by_cases q : s ≤ 2 * h
  · rw [if_pos q, if_pos q, o1, pk_sub q]
  · rw [if_neg q, if_neg q, o1, neg_sub', pk_sub (by omega)]
/-- the first of the least -/
def fA (d : Nat → Nat) : Nat → Nat
  | 0 => 0
  | k + 1 => if d (fA d k) ≤ d (k + 1) then fA d k else k + 1
theorem fA_s (d : Nat → Nat) (k : Nat) : fA d (k + 1) = if d (fA d k) ≤ d (k + 1) then fA d k else k + 1 := rfl
def gB (d : Nat → Nat) (m : Nat) : Nat → Nat
  | 0 => m
  | j + 1 => if d (gB d m j) < d (m - (j + 1)) then gB d m j else m - (j + 1)
theorem gB_s (d : Nat → Nat) (m j : Nat) : gB d m (j + 1) = if d (gB d m j) < d (m - (j + 1)) then gB d m j else m - (j + 1) := rfl
theorem fA_p (d : Nat → Nat) : ∀ k, fA d k ≤ k ∧ (∀ i, i < fA d k → d (fA d k) < d i) ∧ ∀ i, i ≤ k → d (fA d k) ≤ d i := by
  intro k
  induction k with
  | zero =>
    refine ⟨Nat.le_refl _, fun i hi => absurd hi (by simp [fA]), fun i hi => ?_⟩
    have hi : i = 0 := by omega
    subst hi
    exact Nat.le_refl _
  | succ k ih =>
    obtain ⟨h1, h2, h3⟩ := ih
    rw [fA_s]
    by_cases c : d (fA d k) ≤ d (k + 1)
    · rw [if_pos c]
      refine ⟨by omega, h2, fun i hi => ?_⟩
      by_cases e : i = k + 1
      · rw [e]; exact c
      · exact h3 i (by omega)
    · rw [if_neg c]
      refine ⟨Nat.le_refl _, fun i hi => ?_, fun i hi => ?_⟩
      · have := h3 i (by omega)
        omega
      · by_cases e : i = k + 1
        · rw [e]; exact Nat.le_refl _
        · have := h3 i (by omega)
          omega
theorem gB_p (d : Nat → Nat) (m : Nat) : ∀ j, j ≤ m → m - j ≤ gB d m j ∧ gB d m j ≤ m ∧ (∀ i, m - j ≤ i → i < gB d m j → d (gB d m j) < d i) ∧ ∀ i, m - j ≤ i → i ≤ m → d (gB d m j) ≤ d i := by
  intro j
  induction j with
  | zero =>
    intro _
    refine ⟨Nat.le_of_eq rfl, Nat.le_refl _, fun i h1 h2 => ?_, fun i h1 h2 => ?_⟩
    · have : i < m := h2
      omega
    · have hi : i = m := by omega
      subst hi
      exact Nat.le_refl _
  | succ j ih =>
    intro hj
    obtain ⟨h0, h1, h2, h3⟩ := ih (by omega)
    rw [gB_s]
    by_cases c : d (gB d m j) < d (m - (j + 1))
    · rw [if_pos c]
      refine ⟨by omega, h1, fun i a b => ?_, fun i a b => ?_⟩
      · by_cases e : i = m - (j + 1)
        · rw [e]; exact c
        · exact h2 i (by omega) b
      · by_cases e : i = m - (j + 1)
        · rw [e]; omega
        · exact h3 i (by omega) b
    · rw [if_neg c]
      refine ⟨Nat.le_refl _, by omega, fun i a b => by omega, fun i a b => ?_⟩
      by_cases e : i = m - (j + 1)
      · rw [e]; exact Nat.le_refl _
      · have := h3 i (by omega) b
        omega
theorem fA_gB (d : Nat → Nat) (m : Nat) : fA d m = gB d m m := by
  obtain ⟨a1, a2, a3⟩ := fA_p d m
  obtain ⟨b0, b1, b2, b3⟩ := gB_p d m m (Nat.le_refl _)
  rcases Nat.lt_trichotomy (fA d m) (gB d m m) with h | h | h
  · have := b2 _ (by omega) h
    have := a3 _ b1
    omega
  · exact h
  · have := a2 _ h
    have := b3 _ (by omega) a1
    omega
section VIEW10
variable {v w u : Nat → Nat} {I I' : Nat → Int32} {A A' : Nat → Nat → Int32} {R : Nat → Option Nat} {G : Nat → Nat → Option Nat} {pl n : Nat} {ks : Nat → Nat}
def wsf (v : Nat → Nat) (t : Nat) : Nat → Nat := fun k => if t / 2 ^ k % 2 = 0 then 0 else v (41 + k)
def wsm (v : Nat → Nat) (t : Nat) : Nat := sumN (wsf v t) (v 7)
theorem wsm_le (h : OKv v) (t : Nat) : wsm v t ≤ 160 := by
  have h7 := v_m h
  have h1 := sumN_le (f := wsf v t) (b := 20) (v 7) (fun i hi => by
    unfold wsf
    split
    · omega
    · exact (v_pr h hi).2.2.1)
  have h3 : v 7 * 20 ≤ 8 * 20 := Nat.mul_le_mul_right 20 h7
  exact Nat.le_trans h1 h3
def cnt (v : Nat → Nat) (L : Nat) : Nat → Nat
  | 0 => 0
  | t + 1 => if wsm v t = L then cnt v L t + 1 else cnt v L t
def lst (v : Nat → Nat) (L : Nat) : Nat → Option Nat
  | 0 => none
  | t + 1 => if wsm v t = L then (if cnt v L t = 0 then some t else lst v L t) else lst v L t
def hvg (v : Nat → Nat) (L : Nat) : Nat → Nat → Nat
  | 0 => fun _ => 0
  | t + 1 => if wsm v t = L then (fun k => hvg v L t k + t / 2 ^ k % 2) else hvg v L t
theorem cnt_le (L : Nat) : ∀ t, cnt v L t ≤ t := by
  intro t
  induction t with
  | zero => exact Nat.le_refl _
  | succ t ih => unfold cnt; split <;> omega
theorem hvg_le (L : Nat) : ∀ t k, hvg v L t k ≤ t := by
  intro t
  induction t with
  | zero => intro k; exact Nat.le_refl _
  | succ t ih =>
    intro k
    have := ih k
    unfold hvg
    split
    · show hvg v L t k + t / 2 ^ k % 2 ≤ t + 1
      omega
    · omega
theorem scale_sx (hc : CV v (sh 200 I') (sh 200 A') n ks) (h : OKv v) (L : Int32) {t : Nat} (ht : t < 256) : x_laySets_L53 I' A' R G pl n ks L (nI t) NF 0 0 = some (nI (wsm v t), nI (v 7)) := by
  have h7 := v_m h
  have z4 : I' 204 = nI (v 7) := hc.1.2.2.1
  have hr := lp_run (fun k (s : Int32 × Int32) => x_laySets_L53 I' A' R G pl n ks L (nI t) k s.1 s.2) (fun i => (nI (sumN (wsf v t) i), nI i)) (v 7) (some (nI (wsm v t), nI (v 7)))
    (fun k => by
      simp only [x_laySets_L53, z4]
      rw [if_pos (nI_le (Nat.le_refl _) (by omega))]
      rfl)
    (fun k i hi => by
      have e7 : ldO (A' 207) 8 (nI i) = _ := ldN rfl (show i < 8 by omega) (by decide) (hc.2.2.2 i (by omega)).2.2.1
      have c : (nI (t / 2 ^ i % 2) = (0 : Int32)) = _ := z0 (a := t / 2 ^ i % 2) (by omega)
      simp only [x_laySets_L53, z4, has_x t ht i (by omega), o1, c, e7]
      rw [if_neg (nI_ge hi (by omega)), sumN, ← nI_add (sumN (wsf v t) i), nI_1]
      unfold wsf
      by_cases q : t / 2 ^ i % 2 = 0
      · rw [if_pos q, if_pos q]
        rfl
      · rw [if_neg q, if_neg q]
        rfl) NF (NFb (by omega))
  exact hr
theorem scale_sm (hw : MW v (A 0)) (h : OKv v) (a b c d : Int32) {t : Nat} (ht : t < 256) : m_scale_L90 I A a b c d (nI t) NF 0 0 = some (nI (wsm v t), nI (v 7)) := by
  have h7 := v_m h
  have e7 : ldO (A 0) 2044 7 = _ := ldW hw 7 rfl (by decide)
  have hr := lp_run (fun k (s : Int32 × Int32) => m_scale_L90 I A a b c d (nI t) k s.1 s.2) (fun i => (nI (sumN (wsf v t) i), nI i)) (v 7) (some (nI (wsm v t), nI (v 7)))
    (fun k => by
      simp only [m_scale_L90, e7, o1]
      rw [if_pos (nI_le (Nat.le_refl _) (by omega))]
      rfl)
    (fun k i hi => by
      have e41 : ldO (A 0) 2044 (41 + nI i) = _ := ldW hw (41 + i) (nI_add 41 i) (by omega)
      have c : (nI (t / 2 ^ i % 2) = (0 : Int32)) = _ := z0 (a := t / 2 ^ i % 2) (by omega)
      simp only [m_scale_L90, e7, has_m t ht i (by omega), o1, c, e41]
      rw [if_neg (nI_ge hi (by omega)), sumN, ← nI_add (sumN (wsf v t) i), nI_1]
      unfold wsf
      by_cases q : t / 2 ^ i % 2 = 0
      · rw [if_pos q, if_pos q]
        rfl
      · rw [if_neg q, if_neg q]
        rfl) NF (NFb (by omega))
  exact hr
theorem bit_hi {t j k : Nat} (ht : t < 2 ^ j) (h : j ≤ k) : t / 2 ^ k % 2 = 0 := by
  have : t < 2 ^ k := Nat.lt_of_lt_of_le ht (Nat.pow_le_pow_right (by decide) h)
  rw [Nat.div_eq_of_lt this]
theorem scale_hx (J : Nat → Int32) (z4 : J 204 = nI (v 7)) (h : OKv v) (L : Int32) {t : Nat} (ht : t < 2 ^ v 7) (B : Nat → Nat → Int32) (g : Nat → Nat) (hg : ∀ k, k < 8 → B 115 k = nI (g k)) : ∃ B1 y, x_laySets_L137 J R G pl n ks L (nI t) NF B 0 = some (B1, y) ∧ (∀ k, k < 8 → B1 115 k = nI (g k + t / 2 ^ k % 2)) ∧ ∀ i, i ≠ 115 → B1 i = B i := by
  have h7 := v_m h
  have t256 : t < 256 := Nat.lt_of_lt_of_le ht (show 2 ^ v 7 ≤ 2 ^ 8 from Nat.pow_le_pow_right (by decide) h7)
  have hr := lp_rel (fun k (s : (Nat → Nat → Int32) × Int32) => x_laySets_L137 J R G pl n ks L (nI t) k s.1 s.2) (fun i s => s.2 = nI i ∧ (∀ k, k < 8 → s.1 115 k = nI (g k + if k < i then t / 2 ^ k % 2 else 0)) ∧ ∀ i, i ≠ 115 → s.1 i = B i) (v 7) (fun r => (∀ k, k < 8 → r.1 115 k = nI (g k + t / 2 ^ k % 2)) ∧ ∀ i, i ≠ 115 → r.1 i = B i)
    (fun k s hs => by
      obtain ⟨C, x⟩ := s
      obtain ⟨rfl, h1, h2⟩ := hs
      refine ⟨(C, nI (v 7)), ?_, fun k hk => ?_, h2⟩
      · simp only [x_laySets_L137, z4]
        rw [if_pos (nI_le (Nat.le_refl _) (by omega))]
      · have := h1 k hk
        by_cases q : k < v 7
        · rw [if_pos q] at this
          exact this
        · rw [if_neg q] at this
          rw [bit_hi ht (by omega)]
          exact this)
    (fun k i s hi hs => by
      obtain ⟨C, x⟩ := s
      obtain ⟨rfl, h1, h2⟩ := hs
      have h1 : ∀ k, k < 8 → C 115 k = nI (g k + if k < i then t / 2 ^ k % 2 else 0) := h1
      have e : ldO (C 115) 8 (nI i) = _ := ldN rfl (show i < 8 by omega) (by decide) (h1 i (by omega))
      rw [if_neg (Nat.lt_irrefl i), Nat.add_zero] at e
      have st : ∀ x : Int32, stO (C 115) 8 (nI i) x = _ := fun x => stN x rfl (show i < 8 by omega) (by decide)
      have c : (nI (t / 2 ^ i % 2) = (0 : Int32)) = _ := z0 (a := t / 2 ^ i % 2) (by omega)
      have vl : nI (g i) + (if t / 2 ^ i % 2 = 0 then (0 : Int32) else 1) = nI (g i + t / 2 ^ i % 2) := by
        by_cases q : t / 2 ^ i % 2 = 0
        · rw [if_pos q, q]
          exact Int32.add_zero _
        · rw [if_neg q, show t / 2 ^ i % 2 = 1 by omega]
          exact nI_1 _
      refine Or.inl ⟨(va_up C 115 (upd (C 115) i (nI (g i + t / 2 ^ i % 2))), nI (i + 1)), ⟨rfl, fun k hk => ?_, fun j hj => ?_⟩, ?_⟩
      · show upd (C 115) i _ k = _
        by_cases q : k = i
        · rw [q, upd_s, if_pos (by omega)]
        · rw [upd_n _ _ q, h1 k hk]
          by_cases q2 : k < i
          · rw [if_pos q2, if_pos (by omega)]
          · rw [if_neg q2, if_neg (by omega)]
      · exact (va_up_ne _ _ hj).trans (h2 j hj)
      · simp only [x_laySets_L137, z4, e, o1, has_x t t256 i (by omega), c, ife, vl, st]
        rw [if_neg (nI_ge hi (by omega)), nI_1]) NF (B, 0) (NFb (by omega)) ⟨rfl, fun k hk => by rw [if_neg (by omega)]; exact hg k hk, fun _ _ => rfl⟩
  obtain ⟨⟨B1, y⟩, g1, g2, g3⟩ := hr
  exact ⟨B1, y, g1, g2, g3⟩
theorem scale_hm (hw : MW v (A 0)) (h : OKv v) (a b c d : Int32) {t : Nat} (ht : t < 2 ^ v 7) (g : Nat → Nat) (hg : ∀ k, k < 8 → A 15 k = nI (g k)) : ∃ B1 y, m_scale_L162 a b c d (nI t) NF I A 0 = some (I, B1, y) ∧ (∀ k, k < 8 → B1 15 k = nI (g k + t / 2 ^ k % 2)) ∧ ∀ i, i ≠ 15 → B1 i = A i := by
  have h7 := v_m h
  have t256 : t < 256 := Nat.lt_of_lt_of_le ht (show 2 ^ v 7 ≤ 2 ^ 8 from Nat.pow_le_pow_right (by decide) h7)
  have hr := lp_rel (fun k (s : (Nat → Int32) × (Nat → Nat → Int32) × Int32) => m_scale_L162 a b c d (nI t) k s.1 s.2.1 s.2.2) (fun i s => s.1 = I ∧ s.2.2 = nI i ∧ (∀ k, k < 8 → s.2.1 15 k = nI (g k + if k < i then t / 2 ^ k % 2 else 0)) ∧ ∀ i, i ≠ 15 → s.2.1 i = A i) (v 7) (fun r => r.1 = I ∧ (∀ k, k < 8 → r.2.1 15 k = nI (g k + t / 2 ^ k % 2)) ∧ ∀ i, i ≠ 15 → r.2.1 i = A i)
    (fun k s hs => by
      obtain ⟨J, C, x⟩ := s
      obtain ⟨rfl, rfl, h1, h2⟩ := hs
      have h2 : ∀ i, i ≠ 15 → C i = A i := h2
      have e7 : ldO (C 0) 2044 7 = _ := ldW (by rw [h2 0 (by decide)]; exact hw) 7 rfl (by decide)
      refine ⟨(J, C, nI (v 7)), ?_, rfl, fun k hk => ?_, h2⟩
      · simp only [m_scale_L162, e7, o1]
        rw [if_pos (nI_le (Nat.le_refl _) (by omega))]
      · have := h1 k hk
        by_cases q : k < v 7
        · rw [if_pos q] at this
          exact this
        · rw [if_neg q] at this
          rw [bit_hi ht (by omega)]
          exact this)
    (fun k i s hi hs => by
      obtain ⟨J, C, x⟩ := s
      obtain ⟨rfl, rfl, h1, h2⟩ := hs
      have h1 : ∀ k, k < 8 → C 15 k = nI (g k + if k < i then t / 2 ^ k % 2 else 0) := h1
      have h2 : ∀ i, i ≠ 15 → C i = A i := h2
      have e7 : ldO (C 0) 2044 7 = _ := ldW (by rw [h2 0 (by decide)]; exact hw) 7 rfl (by decide)
      have e : ldO (C 15) 8 (nI i) = _ := ldN rfl (show i < 8 by omega) (by decide) (h1 i (by omega))
      rw [if_neg (Nat.lt_irrefl i), Nat.add_zero] at e
      have st : ∀ x : Int32, stO (C 15) 8 (nI i) x = _ := fun x => stN x rfl (show i < 8 by omega) (by decide)
      have c : (nI (t / 2 ^ i % 2) = (0 : Int32)) = _ := z0 (a := t / 2 ^ i % 2) (by omega)
      have vl : nI (g i) + (if t / 2 ^ i % 2 = 0 then (0 : Int32) else 1) = nI (g i + t / 2 ^ i % 2) := by
        by_cases q : t / 2 ^ i % 2 = 0
        · rw [if_pos q, q]
          exact Int32.add_zero _
        · rw [if_neg q, show t / 2 ^ i % 2 = 1 by omega]
          exact nI_1 _
      refine Or.inl ⟨(J, va_up C 15 (upd (C 15) i (nI (g i + t / 2 ^ i % 2))), nI (i + 1)), ⟨rfl, rfl, fun k hk => ?_, fun j hj => ?_⟩, ?_⟩
      · show upd (C 15) i _ k = _
        by_cases q : k = i
        · rw [q, upd_s, if_pos (by omega)]
        · rw [upd_n _ _ q, h1 k hk]
          by_cases q2 : k < i
          · rw [if_pos q2, if_pos (by omega)]
          · rw [if_neg q2, if_neg (by omega)]
      · exact (va_up_ne _ _ hj).trans (h2 j hj)
      · simp only [m_scale_L162, e7, e, o1, has_m t t256 i (by omega), c, ife, vl, st]
        rw [if_neg (nI_ge hi (by omega)), nI_1]) NF (I, A, 0) (NFb (by omega)) ⟨rfl, rfl, fun k hk => by rw [if_neg (by omega)]; exact hg k hk, fun _ _ => rfl⟩
  obtain ⟨⟨J, B1, y⟩, g1, rfl, g2, g3⟩ := hr
  exact ⟨B1, y, g1, g2, g3⟩
end VIEW10
