/-! PLAIN LAW 3: further answers that read -/
set_option maxRecDepth 100000
section VIEW3
variable {v : Nat → Nat} {I I' : Nat → Int32} {A A' : Nat → Nat → Int32} {R : Nat → Option Nat} {G : Nat → Nat → Option Nat} {pl n : Nat} {ks : Nat → Nat}
theorem bit1 : ∀ x, x < 256 → ∀ m, m < 8 → (nI x >>> (nI m &&& 31)) &&& 1 = nI (x / 2 ^ m % 2) := by decide +kernel
theorem eq_promise (hw : MW v (A 0)) (h : OKv v) (hc : CV v (sh 200 I') (sh 200 A') n ks) (hR : R 201 = some pl) (a b : Int32) : ∃ r, x_promise I' A' R G pl n ks a b = some r ∧ m_promise I A a b = some r := by
  have h7 := v_m h
  rcases promise_or (I := I) (A := A) (R := R) (G := G) (pl := pl) hw h a with ⟨e1, e2⟩ | ⟨p, hp, rfl, e1, e2⟩
  · exact ⟨_, by simp only [x_promise, e2 _ _ _ _ hc, ob1, n00, if_true]; rfl, by simp only [m_promise, e1, ob1, n00, if_true]⟩
  · have e2 := e2 _ _ _ _ hc
    have p8 : p < 8 := by omega
    obtain ⟨a5, a6, a7, a8, a9⟩ := hc.2.2.2 p p8
    have b5 : ldO (A' 205) 8 (nI p) = _ := ldN rfl p8 (by decide) a5
    have b6 : ldO (A' 206) 8 (nI p) = _ := ldN rfl p8 (by decide) a6
    have b7 : ldO (A' 207) 8 (nI p) = _ := ldN rfl p8 (by decide) a7
    have b8 : ldO (A' 208) 8 (nI p) = _ := ldN rfl p8 (by decide) a8
    have b9 : ldO (A' 209) 8 (nI p) = _ := ldN rfl p8 (by decide) a9
    have bk : (I' 210 >>> (nI p &&& 31)) &&& 1 = nI (v (65 + p)) := by
      rw [show I' 210 = nI (kmask v) from hc.1.2.2.2.1, bit1 _ (kmask_lt h) p p8, kmask_b h p8]
    have ep := pounds_m (I := I) hw h hp
    have ep2 := pounds_p (R := sh 200 R) hc h hR hp
    simp only [x_promise, m_promise, e1, e2, ob1, n10, if_false, m_in_x, b5, b6, b7, b8, b9, bk, ep, ep2]
    rcases in_ab b (L := 0) (H := 6) 0 6 rfl rfl (by decide) with h1 | ⟨k, -, hk, rfl, h1⟩
    · simp only [h1, n00, if_true]
      have hb : ∀ k : Nat, k ≤ 6 → ¬ b = nI k := by
        intro k hk e
        subst e
        rw [in_i, i64, nI_toInt (by omega), if_pos (by rw [show (0 : Int64).toInt = 0 from rfl, show (6 : Int64).toInt = 6 from rfl]; omega)] at h1
        cases h1
      rw [if_neg (show ¬ b = 0 from hb 0 (by decide)), if_neg (show ¬ b = 1 from hb 1 (by decide)), if_neg (show ¬ b = 2 from hb 2 (by decide)), if_neg (show ¬ b = 3 from hb 3 (by decide)), if_neg (show ¬ b = 4 from hb 4 (by decide)), if_neg (show ¬ b = 5 from hb 5 (by decide)), if_neg (show ¬ b = 6 from hb 6 (by decide))]
      exact ⟨_, rfl, rfl⟩
    · simp only [h1, n10, if_false]
      have hl : ∀ j : Nat, j ≤ 5 → ldO (A 0) 2044 ((25 + (8 * nI j)) + nI p) = some (nI (v (25 + 8 * j + p))) := fun j hj => ldW hw (25 + 8 * j + p) (by rw [show (8 : Int32) * nI j = nI (8 * j) from pk_mul 8 j, show (25 : Int32) + nI (8 * j) = nI (25 + 8 * j) from nI_add 25 _, nI_add]) (by omega)
      rcases (show k = 0 ∨ k = 1 ∨ k = 2 ∨ k = 3 ∨ k = 4 ∨ k = 5 ∨ k = 6 by omega) with rfl | rfl | rfl | rfl | rfl | rfl | rfl
      · exact ⟨_, rfl, by rw [if_neg (by decide), hl 0 (by decide)]⟩
      · exact ⟨_, rfl, by rw [if_neg (by decide), hl 1 (by decide)]⟩
      · exact ⟨_, rfl, by rw [if_neg (by decide), hl 2 (by decide)]⟩
      · exact ⟨_, rfl, by rw [if_neg (by decide), hl 3 (by decide)]⟩
      · exact ⟨_, rfl, by rw [if_neg (by decide), hl 4 (by decide)]⟩
      · exact ⟨_, rfl, by rw [if_neg (by decide), hl 5 (by decide)]⟩
      · exact ⟨_, rfl, by rw [if_pos (by decide)]⟩
theorem eq_height (hw : MW v (A 0)) (h : OKv v) (hc : CV v (sh 200 I') (sh 200 A') n ks) (hR : R 201 = some pl) (a : Int32) : ∃ r, x_height I' A' R G pl n ks a = some r ∧ m_height I A a = some r := by
  have e1 := none_m (I := I) hw h
  have e2 := parish_x (G := G) hc hR h
  by_cases c : v 6 = 0
  · rw [if_pos c] at e1 e2
    exact ⟨_, by simp only [x_height, e2, ob1, n00, if_true]; rfl, by simp only [m_height, e1, ob1, n10, if_false]⟩
  · rw [if_neg c] at e1 e2
    simp only [x_height, m_height, e1, e2, ob1, n10, n00, if_true, if_false, x_isPlace, m_in_x]
    rcases in_ab a (L := 0) (H := 5) 0 5 rfl rfl (by decide) with h1 | ⟨k, -, hk, rfl, h1⟩
    · simp only [h1, zO_0, n00, if_true]
      exact ⟨_, rfl, rfl⟩
    · have a0 : ldO (A' 200) 6 (nI k) = _ := ldN rfl (show k < 6 by omega) (by decide) (hc.2.1 k (by omega))
      have m0 : ldO (A 0) 2044 (0 + nI k) = _ := ldW hw (0 + k) (nI_add 0 k) (by omega)
      simp only [h1, zO_1, n10, if_false, a0, m0, Nat.zero_add]
      exact ⟨_, rfl, rfl⟩
theorem eq_kind (hw : MW v (A 0)) (h : OKv v) (hc : CV v (sh 200 I') (sh 200 A') n ks) (hR : R 201 = some pl) (a : Int32) : ∃ r, x_kind I' A' R G pl n ks a = some r ∧ m_kind I A a = some r := by
  have h6 := v_n h
  rcases person_or (I := I) (A := A) (R := R) (G := G) (pl := pl) hw h a with ⟨e1, e2⟩ | ⟨p, hp, rfl, e1, e2⟩
  · exact ⟨_, by simp only [x_kind, e2 _ _ _ _ hc hR, ob1, n00, if_true]; rfl, by simp only [m_kind, e1, ob1, n00, if_true]⟩
  · have e2 := e2 _ _ _ _ hc hR
    have hn := hc.1.1
    have e10 : ldO (A 0) 2044 (10 + nI p) = _ := ldW hw (10 + p) (nI_add 10 p) (by omega)
    have eg : pgO n (nI p) = some p := pgN rfl (by omega) (by omega)
    have ek : ks p = v (10 + p) := hc.1.2.1 p (by omega)
    have hk := v_k h hp
    have kk : k_kind (v (10 + p)) = some (nI (v (10 + p))) := by
      rcases (show v (10 + p) = 1 ∨ v (10 + p) = 2 ∨ v (10 + p) = 3 ∨ v (10 + p) = 4 ∨ v (10 + p) = 5 by omega) with e | e | e | e | e <;> rw [e] <;> rfl
    simp only [x_kind, m_kind, e1, e2, ob1, n10, if_false, grdO hR, eg, ek, kk, e10]
    exact ⟨_, rfl, rfl⟩
/-- who is late -/
def lat (v : Nat → Nat) (m : Nat) : Bool := decide (v (65 + m) = 0) && decide (v (49 + m) < v 8)
theorem late_m (hw : MW v (A 0)) (h : OKv v) : m_late_L14 I A NF 0 0 = some (nI (msk (lat v) (v 7)), nI (v 7)) := by
  have h7 := v_m h
  have h8 := v_d h
  have e7 : ldO (A 0) 2044 7 = _ := ldW hw 7 rfl (by decide)
  have e8 : ldO (A 0) 2044 8 = _ := ldW hw 8 rfl (by decide)
  exact lp_run (fun k (s : Int32 × Int32) => m_late_L14 I A k s.1 s.2) (fun i => (nI (msk (lat v) i), nI i)) (v 7) (some (nI (msk (lat v) (v 7)), nI (v 7)))
    (fun k => by
      simp only [m_late_L14, e7, ob1]
      rw [if_pos (nI_le (Nat.le_refl _) (by omega))])
    (fun k i hi => by
      have e65 : ldO (A 0) 2044 (65 + nI i) = _ := ldW hw (65 + i) (nI_add 65 i) (by omega)
      have e49 : ldO (A 0) 2044 (49 + nI i) = _ := ldW hw (49 + i) (nI_add 49 i) (by omega)
      have q1 := v_kp h (m := i) (by omega)
      have q2 := (v_pr h hi).2.2.2.1
      have c0 : (nI (v (65 + i)) = (0 : Int32)) = _ := eqL 0 (by omega) (by decide)
      have c1 : (nI (v 8) ≤ nI (v (49 + i))) = _ := leL (by omega) (by omega)
      simp only [m_late_L14, e7, ob1, e65, e49, e8, c0, c1]
      rw [if_neg (nI_ge hi (by omega)), nI_1, ← or_msk (lat v) (show i < 8 by omega)]
      unfold lat
      by_cases a : v (65 + i) = 0
      · by_cases b : v 8 ≤ v (49 + i)
        · rw [if_pos a, if_pos b, if_neg (by simp; omega)]
        · rw [if_pos a, if_neg b, if_pos (by simp; omega)]
      · rw [if_neg a, if_neg (by simp; omega)]) NF (NFb (by omega))
theorem late_x (hc : CV v (sh 200 I') (sh 200 A') n ks) (h : OKv v) : x_late_L14 I' A' R G pl n ks NF 0 0 = some (nI (msk (lat v) (v 7)), nI (v 7)) := by
  have h7 := v_m h
  have h8 := v_d h
  have z4 : I' 204 = nI (v 7) := hc.1.2.2.1
  have z10 : I' 210 = nI (kmask v) := hc.1.2.2.2.1
  have z11 : I' 211 = nI (v 8) := hc.1.2.2.2.2
  exact lp_run (fun k (s : Int32 × Int32) => x_late_L14 I' A' R G pl n ks k s.1 s.2) (fun i => (nI (msk (lat v) i), nI i)) (v 7) (some (nI (msk (lat v) (v 7)), nI (v 7)))
    (fun k => by
      simp only [x_late_L14, z4, ob1]
      rw [if_pos (nI_le (Nat.le_refl _) (by omega))])
    (fun k i hi => by
      have e8 : ldO (A' 208) 8 (nI i) = _ := ldN rfl (show i < 8 by omega) (by decide) (hc.2.2.2 i (by omega)).2.2.2.1
      have eh : x_has (nI (kmask v)) (nI i) = some (nI (v (65 + i))) := by rw [has_x _ (kmask_lt h) i (by omega), kmask_b h (by omega)]
      have q1 := v_kp h (m := i) (by omega)
      have q2 := (v_pr h hi).2.2.2.1
      have c0 : (nI (v (65 + i)) = (0 : Int32)) = _ := eqL 0 (by omega) (by decide)
      have c1 : (nI (v 8) ≤ nI (v (49 + i))) = _ := leL (by omega) (by omega)
      simp only [x_late_L14, z4, z10, z11, ob1, eh, e8, c0, c1]
      rw [if_neg (nI_ge hi (by omega)), nI_1, ← or_msk (lat v) (show i < 8 by omega)]
      unfold lat
      by_cases a : v (65 + i) = 0
      · by_cases b : v 8 ≤ v (49 + i)
        · rw [if_pos a, if_pos b, if_neg (by simp; omega)]
        · rw [if_pos a, if_neg b, if_pos (by simp; omega)]
      · rw [if_neg a, if_neg (by simp; omega)]) NF (NFb (by omega))
theorem eq_late (hw : MW v (A 0)) (h : OKv v) (hc : CV v (sh 200 I') (sh 200 A') n ks) (hR : R 201 = some pl) : ∃ r, x_late I' A' R G pl n ks = some r ∧ m_late I A = some r := by
  have e1 := none_m (I := I) hw h
  have e2 := parish_x (G := G) hc hR h
  by_cases c : v 6 = 0
  · rw [if_pos c] at e1 e2
    exact ⟨_, by simp only [x_late, e2, ob1, n00, if_true]; rfl, by simp only [m_late, e1, ob1, n10, if_false]⟩
  · rw [if_neg c] at e1 e2
    exact ⟨_, by simp only [x_late, e2, ob1, n10, if_false, late_x hc h, ob2]; rfl, by simp only [m_late, e1, ob1, n00, if_true, late_m hw h, ob2]⟩
/-- the law of pounds: what all can bear -/
def bor (v : Nat → Nat) (f : Nat) : Bool := decide (msk (crsT v f) (v 6) = 0)
def lastB (c : Nat → Bool) : Nat → Nat
  | 0 => 0
  | f + 1 => if c (f + 1) then f + 1 else lastB c f
theorem lastB_le (c : Nat → Bool) : ∀ f, lastB c f ≤ f := by
  intro f
  induction f with
  | zero => exact Nat.le_refl _
  | succ f ih =>
    unfold lastB
    split
    · exact Nat.le_refl _
    · omega
theorem law_x (hc : CV v (sh 200 I') (sh 200 A') n ks) (hR : R 201 = some pl) (h : OKv v) : x_law_L14 I' A' R G pl n ks NF 0 1 = some (nI (lastB (bor v) 40), nI 41) := by
  exact lp_run (fun k (s : Int32 × Int32) => x_law_L14 I' A' R G pl n ks k s.1 s.2) (fun i => (nI (lastB (bor v) i), nI (i + 1))) 40 (some (nI (lastB (bor v) 40), nI 41))
    (fun k => by
      simp only [x_law_L14]
      rw [if_pos (by decide)])
    (fun k i hi => by
      have e := crushedBy_p (R := sh 200 R) hc h hR (t := i + 1) (by omega)
      have h6 := v_n h
      have hl := msk_lt (crsT v (i + 1)) (v 6)
      have hl2 : 2 ^ v 6 ≤ 2 ^ 5 := Nat.pow_le_pow_right (by decide) h6
      have c0 : (nI (msk (crsT v (i + 1)) (v 6)) = (0 : Int32)) = _ := eqL 0 (by omega) (by decide)
      simp only [x_law_L14, e, ob1, c0]
      rw [if_neg (by rw [show (40 : Int32) = nI 40 from rfl]; exact nI_nlt (by omega) (by decide)), nI_1]
      show _ = x_law_L14 I' A' R G pl n ks k (nI (if bor v (i + 1) = true then i + 1 else lastB (bor v) i)) (nI (i + 1 + 1))
      unfold bor
      by_cases q : msk (crsT v (i + 1)) (v 6) = 0
      · rw [if_pos q, if_pos (by simpa using q)]
      · rw [if_neg q, if_neg (by simpa using q)]) NF (NFb (by decide))
/-- the first so many all bear it -/
def brn (v : Nat → Nat) (f : Nat) : Nat → Bool
  | 0 => true
  | k + 1 => brn v f k && !(crsT v f k)
theorem brn_msk (f : Nat) : ∀ k, brn v f k = decide (msk (crsT v f) k = 0) := by
  intro k
  induction k with
  | zero => rfl
  | succ k ih =>
    rw [brn, ih, msk_s]
    have := Nat.two_pow_pos k
    cases hc : crsT v f k with
    | false => simp
    | true =>
      simp only [if_true, Bool.not_true, Bool.and_false]
      exact (decide_eq_false (by omega)).symm
theorem borne_m (hw : MW v (A 0)) (h : OKv v) {f : Nat} (hf : f ≤ 40) : m_isBorne I A (nI f) = some (if bor v f then 1 else 0) := by
  have h6 := v_n h; have h7 := v_m h
  have e6 : ldO (A 0) 2044 6 = _ := ldW hw 6 rfl (by decide)
  have e7 : ldO (A 0) 2044 7 = _ := ldW hw 7 rfl (by decide)
  have inner : ∀ (x2 : Int32) (p : Nat), p < 2 ^ 31 → m_isBorne_L21 I A (nI f) x2 (nI p) NF 0 0 = some (nI (loadT v p f), nI (v 7)) := fun x2 p hp =>
    lp_run (fun k (s : Int32 × Int32) => m_isBorne_L21 I A (nI f) x2 (nI p) k s.1 s.2) (fun i => (nI (sumN (ldtf v p f) i), nI i)) (v 7) (some (nI (loadT v p f), nI (v 7)))
      (fun k => by
        simp only [m_isBorne_L21, e7, ob1]
        rw [if_pos (nI_le (Nat.le_refl _) (by omega))]
        rfl)
      (fun k i hi => by
        have e25 : ldO (A 0) 2044 (25 + nI i) = _ := ldW hw (25 + i) (nI_add 25 i) (by omega)
        have q1 := (v_pr h hi).1
        have q2 := pnd_le h hi
        have q3 : pnd v i * f ≤ 40 * 40 := Nat.mul_le_mul q2 hf
        have c : (nI (v (25 + i)) = nI p) = _ := eqL p (by omega) hp
        have dv : divO (nI (pnd v i) * nI f) 10 = some (nI (pnd v i * f / 10)) := by
          unfold divO
          rw [if_neg (by decide), pk_mul]
          exact congrArg some (pk_div (d := 10) (by omega) (by decide) (by decide))
        simp only [m_isBorne_L21, e7, ob1, e25, c, pounds_m hw h hi, dv]
        rw [if_neg (nI_ge hi (by omega)), sumN, ← nI_add, nI_1]
        unfold ldtf
        by_cases hq : v (25 + i) = p
        · rw [if_pos hq, if_pos hq]
        · rw [if_neg hq, if_neg hq]
          rfl) NF (NFb (by omega))
  have hr := lp_run (fun k (s : Int32 × Int32) => m_isBorne_L4 I A (nI f) k s.1 s.2) (fun i => ((if brn v f i then 1 else 0), nI i)) (v 6) (some ((if brn v f (v 6) then 1 else 0), nI (v 6)))
    (fun k => by
      simp only [m_isBorne_L4, e6, ob1]
      rw [if_pos (nI_le (Nat.le_refl _) (by omega))])
    (fun k i hi => by
      have e15 : ldO (A 0) 2044 (15 + nI i) = _ := ldW hw (15 + i) (nI_add 15 i) (by omega)
      have q1 := loadT_le h i hf
      have q2 := (v_sp h (show i < 5 by omega)).1
      have c : (nI (v (15 + i)) < nI (loadT v i f)) = _ := ltL (by omega) (by omega)
      simp only [m_isBorne_L4, e6, ob1, inner _ i (by omega), ob2, e15, c]
      rw [if_neg (nI_ge hi (by omega)), nI_1]
      show _ = m_isBorne_L4 I A (nI f) k (if (brn v f i && !(crsT v f i)) = true then 1 else 0) (nI (i + 1))
      unfold crsT
      by_cases b : brn v f i = true
      · rw [if_pos b, if_neg (by decide)]
        by_cases q : v (15 + i) < loadT v i f
        · rw [if_pos q, if_neg (by simp [b]; omega)]
        · rw [if_neg q, if_pos (by simp [b]; omega)]
      · rw [if_neg b, if_pos rfl, if_neg (by simp [b])]) NF (NFb (by omega))
  have hr : m_isBorne_L4 I A (nI f) NF 1 0 = _ := hr
  simp only [m_isBorne, hr, ob2]
  rw [brn_msk]
  unfold bor
  by_cases q : msk (crsT v f) (v 6) = 0
  · rw [if_pos (by simpa using q)]
    rfl
  · rw [if_neg (by simpa using q)]
    rfl
theorem bor_0 : bor v 0 = true := by
  unfold bor
  refine decide_eq_true ((msk_0 _ _).mpr (fun p hp => ?_))
  unfold crsT
  have : loadT v p 0 = 0 := by
    have h1 := sumN_le (f := ldtf v p 0) (b := 0) (v 7) (fun i _ => by unfold ldtf; split <;> simp)
    have h2 : loadT v p 0 = sumN (ldtf v p 0) (v 7) := rfl
    omega
  rw [this]
  simp
theorem law_m (hw : MW v (A 0)) (h : OKv v) : ∀ f, f ≤ 40 → ∀ k, f < k → m_law_L13 I A k (nI f) = some (nI (lastB (bor v) f)) := by
  intro f
  induction f with
  | zero =>
    intro _ k hk
    obtain ⟨j, rfl⟩ : ∃ j, k = j + 1 := ⟨k - 1, by omega⟩
    simp only [m_law_L13, borne_m hw h (show 0 ≤ 40 by decide), ob1, bor_0, if_true, n10, if_false]
    rfl
  | succ f ih =>
    intro hf k hk
    obtain ⟨j, rfl⟩ : ∃ j, k = j + 1 := ⟨k - 1, by omega⟩
    simp only [m_law_L13, borne_m hw h hf, ob1]
    by_cases b : bor v (f + 1) = true
    · rw [if_pos b, if_neg (by decide)]
      show _ = some (nI (if bor v (f + 1) = true then f + 1 else lastB (bor v) f))
      rw [if_pos b]
    · rw [if_neg b, if_pos rfl, pk_m1, ih (by omega) j (by omega)]
      show _ = some (nI (if bor v (f + 1) = true then f + 1 else lastB (bor v) f))
      rw [if_neg b]
theorem eq_law (hw : MW v (A 0)) (h : OKv v) (hc : CV v (sh 200 I') (sh 200 A') n ks) (hR : R 201 = some pl) : ∃ r, x_law I' A' R G pl n ks = some r ∧ m_law I A = some r := by
  have e1 := none_m (I := I) hw h
  have e2 := parish_x (G := G) hc hR h
  by_cases c : v 6 = 0
  · rw [if_pos c] at e1 e2
    exact ⟨_, by simp only [x_law, e2, ob1, n00, if_true]; rfl, by simp only [m_law, e1, ob1, n10, if_false]⟩
  · rw [if_neg c] at e1 e2
    have em : m_law_L13 I A NF 40 = _ := law_m hw h 40 (by decide) NF (NFb (by decide))
    exact ⟨_, by simp only [x_law, e2, ob1, n10, if_false, law_x hc hR h, ob2]; rfl, by simp only [m_law, e1, ob1, n00, if_true, em]⟩
end VIEW3
