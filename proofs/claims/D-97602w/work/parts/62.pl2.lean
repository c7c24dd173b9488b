/-! PLAIN LAW 2: ranges, the easy answers -/
set_option maxRecDepth 100000
theorem m_in_x : m_in = x_isIn := rfl
theorem m_has_x : m_has = x_has := rfl
theorem zO_0 : zO 0 = some 0 := rfl
theorem zO_1 : zO 1 = some 1 := rfl
theorem n10 : ((1 : Int32) = 0) = False := eq_false (by decide)
theorem n00 : ((0 : Int32) = 0) = True := eq_true rfl
theorem l_lt {x y : Int64} : (lg_cmp x y < 0) = (x.toInt < y.toInt) := propext ((lg_cmp_lt x y).trans Int64.lt_iff_toInt_lt)
theorem l_gt {x y : Int64} : (0 < lg_cmp x y) = (y.toInt < x.toInt) := propext ((lg_cmp_gt x y).trans Int64.lt_iff_toInt_lt)
theorem in_i (x lo hi : Int64) : x_isIn x lo hi = some (if lo.toInt ≤ x.toInt ∧ x.toInt ≤ hi.toInt then 1 else 0) := by
  simp only [x_isIn, l_lt, l_gt]
  by_cases h1 : x.toInt < lo.toInt
  · rw [if_pos h1, if_neg (by omega)]
    rfl
  · rw [if_neg h1]
    by_cases h2 : hi.toInt < x.toInt
    · rw [if_pos h2, if_neg (by omega)]
      rfl
    · rw [if_neg h2, if_pos (by omega)]
      rfl
theorem i64 (a : Int32) : a.toInt64.toInt = a.toInt := Int32.toInt_toInt64 a
theorem in_ab (a : Int32) {L H : Int64} (lo hi : Nat) (hL : L.toInt = lo) (hH : H.toInt = hi) (hh : hi < 2 ^ 31) : (x_isIn a.toInt64 L H = some 0) ∨ ∃ k, lo ≤ k ∧ k ≤ hi ∧ a = nI k ∧ x_isIn (nI k).toInt64 L H = some 1 := by
  by_cases h : (lo : Int) ≤ a.toInt ∧ a.toInt ≤ hi
  · right
    obtain ⟨j, h1, rfl⟩ := nI_of (x := a) (fun z => by
      have := Int32.lt_iff_toInt_lt.mp z
      rw [show (0 : Int32).toInt = 0 from rfl] at this
      omega)
    rw [nI_toInt h1] at h
    refine ⟨j, by omega, by omega, rfl, ?_⟩
    rw [in_i, i64, hL, hH, nI_toInt h1, if_pos h]
  · left
    rw [in_i, i64, hL, hH, if_neg h]
theorem in_cnt (a : Int32) (n : Nat) (hn : n < 1000) : (x_isIn a.toInt64 0 ((nI n - 1).toInt64) = some 0) ∨ ∃ k, k < n ∧ a = nI k ∧ x_isIn (nI k).toInt64 0 ((nI n - 1).toInt64) = some 1 := by
  cases n with
  | zero =>
    left
    rw [in_i, i64, i64, if_neg]
    rw [show (0 : Int64).toInt = 0 from rfl, show (nI 0 - 1).toInt = -1 from rfl]
    omega
  | succ n =>
    rw [nI_pred]
    rcases in_ab a (L := 0) (H := (nI n).toInt64) 0 n rfl (by rw [i64, nI_toInt (by omega)]) (by omega) with h | ⟨k, -, h2, h3, h4⟩
    · exact Or.inl h
    · exact Or.inr ⟨k, by omega, h3, h4⟩
def NONE : Int32 := -1000000
def BAD : Int32 := -1000001
def STATE : Int32 := -1000002
/-- sets by a test -/
def msk (c : Nat → Bool) (k : Nat) : Nat := sumN (fun p => if c p then 2 ^ p else 0) k
theorem msk_lt (c : Nat → Bool) (k : Nat) : msk c k < 2 ^ k := by
  induction k with
  | zero => exact Nat.one_pos
  | succ k ih =>
    have : msk c (k + 1) = msk c k + if c k then 2 ^ k else 0 := rfl
    rw [this, Nat.pow_succ]
    split <;> omega
theorem msk_s (c : Nat → Bool) (k : Nat) : msk c (k + 1) = msk c k + if c k then 2 ^ k else 0 := rfl
theorem msk_b (c : Nat → Bool) {p : Nat} : ∀ k, p < k → msk c k / 2 ^ p % 2 = if c p then 1 else 0 := by
  intro k
  induction k with
  | zero => intro h; omega
  | succ k ih =>
    intro h
    rw [msk_s]
    by_cases e : p = k
    · subst e
      have := msk_lt c p
      split
      · rw [Nat.add_div_right _ (Nat.two_pow_pos p), Nat.div_eq_of_lt this]
      · rw [Nat.add_zero, Nat.div_eq_of_lt this]
    · have hp : p < k := by omega
      rw [← ih hp]
      split
      · obtain ⟨d, rfl⟩ : ∃ d, k = p + (d + 1) := ⟨k - p - 1, by omega⟩
        rw [Nat.pow_add, Nat.add_mul_div_left _ _ (Nat.two_pow_pos p), Nat.pow_succ]
        omega
      · rw [Nat.add_zero]
theorem msk_0 (c : Nat → Bool) : ∀ k, msk c k = 0 ↔ ∀ p, p < k → c p = false := by
  intro k
  induction k with
  | zero => exact ⟨fun _ p hp => by omega, fun _ => rfl⟩
  | succ k ih =>
    rw [msk_s]
    have h2 := Nat.two_pow_pos k
    constructor
    · intro h p hp
      have h0 : msk c k = 0 := by omega
      by_cases e : p = k
      · subst e
        cases hc : c p with
        | false => rfl
        | true => rw [hc] at h; simp at h
      · exact ih.mp h0 p (by omega)
    · intro h
      rw [ih.mpr (fun p hp => h p (by omega)), h k (by omega)]
      rfl
theorem msk_congr {c d : Nat → Bool} (k : Nat) (h : ∀ p, p < k → c p = d p) : msk c k = msk d k := sumN_congr k (fun i hi => by rw [h i hi])
/-- a bit is laid to a set -/
theorem or_msk (c : Nat → Bool) {k : Nat} (hk : k < 8) : nI (msk c k) ||| (if c k then (1 : Int32) <<< (nI k &&& 31) else 0) = nI (msk c (k + 1)) := by
  rw [msk_s]
  split
  · rw [shl_1 k (by omega), or_b k hk _ (msk_lt c k)]
  · rw [or_0, Nat.add_zero]
section VIEW2
variable {v : Nat → Nat} {I : Nat → Int32} {A : Nat → Nat → Int32} {R : Nat → Option Nat} {G : Nat → Nat → Option Nat} {pl n : Nat} {ks : Nat → Nat}
theorem many_p (hc : CV v I A n ks) (hR : R 1 = some pl) : p_many I A R pl n ks = some (nI (v 6)) := by
  simp only [p_many, grdO hR, ob1]
  rw [hc.1.1]
theorem person_or (hw : MW v (A 0)) (h : OKv v) (a : Int32) : (m_isPerson I A a = some 0 ∧ ∀ (I' : Nat → Int32) (A' : Nat → Nat → Int32) (n : Nat) (ks : Nat → Nat), CV v (sh 200 I') (sh 200 A') n ks → R 201 = some pl → x_isPerson I' A' R G pl n ks a = some 0) ∨ ∃ p, p < v 6 ∧ a = nI p ∧ m_isPerson I A (nI p) = some 1 ∧ ∀ (I' : Nat → Int32) (A' : Nat → Nat → Int32) (n : Nat) (ks : Nat → Nat), CV v (sh 200 I') (sh 200 A') n ks → R 201 = some pl → x_isPerson I' A' R G pl n ks (nI p) = some 1 := by
  have h6 := v_n h
  have e6 : ldO (A 0) 2044 6 = _ := ldW hw 6 rfl (by decide)
  have em : ∀ (I' : Nat → Int32) (A' : Nat → Nat → Int32) (n : Nat) (ks : Nat → Nat), CV v (sh 200 I') (sh 200 A') n ks → R 201 = some pl → p_many (sh 200 I') (sh 200 A') (sh 200 R) pl n ks = some (nI (v 6)) := fun I' A' n ks hc hR => many_p hc hR
  rcases in_cnt a (v 6) (by omega) with h1 | ⟨k, h1, rfl, h2⟩
  · refine Or.inl ⟨?_, fun I' A' n ks hc hR => ?_⟩
    · simp only [m_isPerson, e6, ob1, m_in_x, h1, zO_0]
    · simp only [x_isPerson, em I' A' n ks hc hR, ob1, h1, zO_0]
  · refine Or.inr ⟨k, h1, rfl, ?_, fun I' A' n ks hc hR => ?_⟩
    · simp only [m_isPerson, e6, ob1, m_in_x, h2, zO_1]
    · simp only [x_isPerson, em I' A' n ks hc hR, ob1, h2, zO_1]
theorem promise_or (hw : MW v (A 0)) (h : OKv v) (a : Int32) : (m_isPromise I A a = some 0 ∧ ∀ (I' : Nat → Int32) (A' : Nat → Nat → Int32) (n : Nat) (ks : Nat → Nat), CV v (sh 200 I') (sh 200 A') n ks → x_isPromise I' A' R G pl n ks a = some 0) ∨ ∃ p, p < v 7 ∧ a = nI p ∧ m_isPromise I A (nI p) = some 1 ∧ ∀ (I' : Nat → Int32) (A' : Nat → Nat → Int32) (n : Nat) (ks : Nat → Nat), CV v (sh 200 I') (sh 200 A') n ks → x_isPromise I' A' R G pl n ks (nI p) = some 1 := by
  have h7 := v_m h
  have e7 : ldO (A 0) 2044 7 = _ := ldW hw 7 rfl (by decide)
  have em : ∀ (I' : Nat → Int32) (A' : Nat → Nat → Int32) (n : Nat) (ks : Nat → Nat), CV v (sh 200 I') (sh 200 A') n ks → I' 204 = nI (v 7) := fun I' A' n ks hc => hc.1.2.2.1
  rcases in_cnt a (v 7) (by omega) with h1 | ⟨k, h1, rfl, h2⟩
  · refine Or.inl ⟨?_, fun I' A' n ks hc => ?_⟩
    · simp only [m_isPromise, e7, ob1, m_in_x, h1, zO_0]
    · simp only [x_isPromise, em I' A' n ks hc, ob1, h1, zO_0]
  · refine Or.inr ⟨k, h1, rfl, ?_, fun I' A' n ks hc => ?_⟩
    · simp only [m_isPromise, e7, ob1, m_in_x, h2, zO_1]
    · simp only [x_isPromise, em I' A' n ks hc, ob1, h2, zO_1]
/-- whether there is a parish -/
theorem none_m (hw : MW v (A 0)) (h : OKv v) : m_isNone I A = some (if v 6 = 0 then 1 else 0) := by
  have e9 : ldO (A 0) 2044 9 = _ := ldW hw 9 rfl (by decide)
  simp only [m_isNone, e9, ob1]
  rw [h.1.2.2.2]
  by_cases c : v 6 = 0
  · rw [if_pos c, if_pos c]
    rfl
  · rw [if_neg c, if_neg c]
    rfl
theorem parish_x (hc : CV v (sh 200 I) (sh 200 A) n ks) (hR : R 201 = some pl) (h : OKv v) : x_isParish I A R G pl n ks = some (if v 6 = 0 then 0 else 1) := by
  have h6 := v_n h
  have e := many_p (R := sh 200 R) hc hR
  have c : (nI (v 6) ≤ (0 : Int32)) = (v 6 ≤ 0) := leL (b := 0) (by omega) (by decide)
  simp only [x_isParish, e, ob1, c]
  by_cases c : v 6 = 0
  · rw [if_pos (by omega), if_pos c]
    rfl
  · rw [if_neg (by omega), if_neg c]
    rfl
/-- who is crushed -/
def crs (v : Nat → Nat) (p : Nat) : Bool := decide (v (15 + p) < load v p)
def crsT (v : Nat → Nat) (t p : Nat) : Bool := decide (v (15 + p) < loadT v p t)
theorem loadT_le (h : OKv v) (p : Nat) {t : Nat} (ht : t ≤ 40) : loadT v p t ≤ 1280 := by
  have h1 := sumN_le (f := ldtf v p t) (b := 160) (v 7) (fun i hi => by
    unfold ldtf
    split
    · have := pnd_le h hi
      have h2 : pnd v i * t ≤ 40 * 40 := Nat.mul_le_mul this ht
      omega
    · omega)
  have h2 := v_m h
  have h3 : v 7 * 160 ≤ 8 * 160 := Nat.mul_le_mul_right 160 h2
  exact Nat.le_trans h1 h3
theorem crushed_m (hw : MW v (A 0)) (h : OKv v) {p : Nat} (hp : p < 5) : m_isCrushed I A (nI p) = some (if crs v p then 1 else 0) := by
  have e15 : ldO (A 0) 2044 (15 + nI p) = _ := ldW hw (15 + p) (nI_add 15 p) (by omega)
  have h1 := load_le h p
  have h2 := (v_sp h hp).1
  have c : (nI (load v p) ≤ nI (v (15 + p))) = _ := leL (by omega) (by omega)
  simp only [m_isCrushed, load_m hw h (show p < 2 ^ 31 by omega), e15, ob1, c]
  by_cases q : load v p ≤ v (15 + p)
  · rw [if_pos q, show crs v p = false from decide_eq_false (by omega)]
    rfl
  · rw [if_neg q, show crs v p = true from decide_eq_true (by omega)]
    rfl
theorem crushedNow_m (hw : MW v (A 0)) (h : OKv v) : m_crushedNow I A = some (nI (msk (crs v) (v 6))) := by
  have h6 := v_n h
  have e6 : ldO (A 0) 2044 6 = _ := ldW hw 6 rfl (by decide)
  have hr := lp_run (fun k (s : Int32 × Int32) => m_crushedNow_L4 I A k s.1 s.2) (fun i => (nI (msk (crs v) i), nI i)) (v 6) (some (nI (msk (crs v) (v 6)), nI (v 6)))
    (fun k => by
      simp only [m_crushedNow_L4, e6, ob1]
      rw [if_pos (nI_le (Nat.le_refl _) (by omega))])
    (fun k i hi => by
      simp only [m_crushedNow_L4, e6, ob1, crushed_m hw h (show i < 5 by omega)]
      rw [if_neg (nI_ge hi (by omega)), nI_1, ← or_msk (crs v) (show i < 8 by omega)]
      cases crs v i <;> rfl) NF (NFb (by omega))
  have hr : m_crushedNow_L4 I A NF 0 0 = _ := hr
  simp only [m_crushedNow, hr, ob2]
theorem crushedBy_p (hc : CV v I A n ks) (h : OKv v) (hR : R 1 = some pl) {t : Nat} (ht : t ≤ 40) : p_crushedBy I A R pl n ks (nI t) = some (nI (msk (crsT v t) (v 6))) := by
  have h6 := v_n h
  have e6 := many_p hc hR
  have hr := lp_run (fun k (s : Int32 × Int32) => p_crushedBy_L4 I A R pl n ks (nI t) k s.1 s.2) (fun i => (nI (msk (crsT v t) i), nI i)) (v 6) (some (nI (msk (crsT v t) (v 6)), nI (v 6)))
    (fun k => by
      simp only [p_crushedBy_L4, e6, ob1]
      rw [if_pos (nI_le (Nat.le_refl _) (by omega))])
    (fun k i hi => by
      have e2 : ldO (A 2) 5 (nI i) = _ := ldN rfl (by omega) (by decide) (hc.2.2.1 i (by omega)).1
      have h1 := loadT_le h i ht
      have h2 := (v_sp h (show i < 5 by omega)).1
      have c : (nI (loadT v i t) ≤ nI (v (15 + i))) = _ := leL (by omega) (by omega)
      simp only [p_crushedBy_L4, e6, ob1, loadBy_p hc h hR (show i < 2 ^ 31 by omega) ht, e2, c]
      rw [if_neg (nI_ge hi (by omega)), nI_1, ← or_msk (crsT v t) (show i < 8 by omega)]
      unfold crsT
      by_cases q : loadT v i t ≤ v (15 + i)
      · rw [if_pos q, if_neg (by simp; omega)]
      · rw [if_neg q, if_pos (by simp; omega)]) NF (NFb (by omega))
  have hr : p_crushedBy_L4 I A R pl n ks (nI t) NF 0 0 = _ := hr
  simp only [p_crushedBy, hr, ob2]
theorem crushed_p (hc : CV v I A n ks) (h : OKv v) (hR : R 1 = some pl) : p_crushed I A R pl n ks = some (nI (msk (crs v) (v 6))) := by
  have e : p_crushedBy I A R pl n ks 10 = _ := crushedBy_p hc h hR (t := 10) (by decide)
  simp only [p_crushed, e, ob1]
  rw [msk_congr (d := crs v) _ (fun p _ => by unfold crsT crs; rw [loadT_10])]
/-- the answers that read -/
theorem eq_person (hw : MW v (A 0)) (h : OKv v) {I' : Nat → Int32} {A' : Nat → Nat → Int32} (hc : CV v (sh 200 I') (sh 200 A') n ks) (hR : R 201 = some pl) (a b : Int32) : ∃ r, x_person I' A' R G pl n ks a b = some r ∧ m_person I A a b = some r := by
  have h6 := v_n h
  rcases person_or (I := I) (A := A) (R := R) (G := G) (pl := pl) hw h a with ⟨e1, e2⟩ | ⟨p, hp, rfl, e1, e2⟩
  · exact ⟨_, by simp only [x_person, e2 _ _ _ _ hc hR, ob1, n00, if_true]; rfl, by simp only [m_person, e1, ob1, n00, if_true]⟩
  · have e2 := e2 _ _ _ _ hc hR
    have p5 : p < 5 := by omega
    have e15 : ldO (A 0) 2044 (15 + nI p) = _ := ldW hw (15 + p) (nI_add 15 p) (by omega)
    have e20 : ldO (A 0) 2044 (20 + nI p) = _ := ldW hw (20 + p) (nI_add 20 p) (by omega)
    have a2 : ldO (A' 202) 5 (nI p) = _ := ldN rfl p5 (by decide) (hc.2.2.1 p p5).1
    have a3 : ldO (A' 203) 5 (nI p) = _ := ldN rfl p5 (by decide) (hc.2.2.1 p p5).2
    have el := load_m (I := I) hw h (show p < 2 ^ 31 by omega)
    have el2 := load_p (R := sh 200 R) hc h hR (show p < 2 ^ 31 by omega)
    have ec := crushed_m (I := I) hw h p5
    have ec2 := crushed_p (R := sh 200 R) hc h hR
    simp only [x_person, m_person, e1, e2, ob1, n10, if_false, m_in_x, a2, a3, e15, e20, el, el2, ec, ec2]
    rcases in_ab b (L := 0) (H := 3) 0 3 rfl rfl (by decide) with h1 | ⟨k, -, hk, rfl, h1⟩
    · simp only [h1, n00, if_true]
      have hb : ∀ k : Nat, k ≤ 3 → ¬ b = nI k := by
        intro k hk e
        subst e
        rw [in_i, i64, nI_toInt (by omega), if_pos (by rw [show (0 : Int64).toInt = 0 from rfl, show (3 : Int64).toInt = 3 from rfl]; omega)] at h1
        cases h1
      rw [if_neg (show ¬ b = 0 from hb 0 (by decide)), if_neg (show ¬ b = 1 from hb 1 (by decide)), if_neg (show ¬ b = 2 from hb 2 (by decide)), if_neg (show ¬ b = 3 from hb 3 (by decide))]
      exact ⟨_, rfl, rfl⟩
    · simp only [h1, n10, if_false]
      rcases (show k = 0 ∨ k = 1 ∨ k = 2 ∨ k = 3 by omega) with rfl | rfl | rfl | rfl
      · exact ⟨_, rfl, rfl⟩
      · exact ⟨_, rfl, rfl⟩
      · exact ⟨_, rfl, rfl⟩
      · have hs : (nI (msk (crs v) (v 6)) >>> (nI p &&& 31)) &&& 1 = if crs v p then 1 else 0 := by
          have hl := msk_lt (crs v) (v 6)
          have hl2 : 2 ^ v 6 ≤ 2 ^ 5 := Nat.pow_le_pow_right (by decide) h6
          have hx := has_x (msk (crs v) (v 6)) (by omega) p (by omega)
          rw [msk_b _ _ hp] at hx
          have hg : ∀ x, x < 32 → ∀ m, m < 5 → (nI x >>> (nI m &&& 31)) &&& 1 = nI (x / 2 ^ m % 2) := by decide +kernel
          rw [hg _ (by omega) p p5, msk_b _ _ hp]
          cases crs v p <;> rfl
        refine ⟨if crs v p then 1 else 0, ?_, ?_⟩
        · rw [show (nI 3 : Int32) = 3 from rfl, if_neg (by decide), if_neg (by decide), if_neg (by decide), if_pos rfl, hs]
        · rw [show (nI 3 : Int32) = 3 from rfl, if_neg (by decide), if_neg (by decide), if_neg (by decide)]
          cases crs v p <;> rfl
end VIEW2
