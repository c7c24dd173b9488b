/-! PLAIN LAW 5: ways, the heaviest laden -/
set_option maxRecDepth 100000
theorem mx0 {a b : Nat} (ha : a < 2 ^ 30) (hb : b < 2 ^ 30) : mxI 0 (nI a - nI b) = nI (a - b) := by
  unfold mxI
  by_cases c : b ≤ a
  · rw [pk_sub c]
    by_cases z : a - b = 0
    · rw [z, if_neg (by decide)]
      rfl
    · rw [if_pos (show (0 : Int32) < nI (a - b) from nI_lt (a := 0) (by omega) (by omega))]
  · have h := pk_sneg (a := a) (b := b) hb (by omega)
    rw [if_neg (fun z => Int32.lt_irrefl (Int32.lt_trans z h)), show a - b = 0 by omega]
    rfl
theorem mx1 {x a b : Nat} (hx : x < 2 ^ 30) (ha : a < 2 ^ 30) (hb : b < 2 ^ 30) : mxI (nI x) (nI a - nI b) = nI (max x (a - b)) := by
  unfold mxI
  by_cases c : b ≤ a
  · rw [pk_sub c]
    have cc : (nI x < nI (a - b)) = _ := ltL (by omega) (by omega)
    simp only [cc]
    by_cases d : x < a - b
    · rw [if_pos d, Nat.max_eq_right (by omega)]
    · rw [if_neg d, Nat.max_eq_left (by omega)]
  · have h := pk_sneg (a := a) (b := b) hb (by omega)
    rw [if_neg (fun z => (nI_pos (n := x) (by omega)) (Int32.lt_trans z h)), show a - b = 0 by omega, Nat.max_eq_left (by omega)]
theorem le0 {a b : Nat} (ha : a < 2 ^ 30) (hb : b < 2 ^ 30) : (if (nI a - nI b) ≤ 0 then (some 0 : Option Int32) else some (nI a - nI b)) = some (nI (a - b)) := by
  by_cases c : b ≤ a
  · rw [pk_sub c]
    have cc : (nI (a - b) ≤ (0 : Int32)) = _ := leL (b := 0) (by omega) (by decide)
    simp only [cc]
    by_cases z : a - b ≤ 0
    · rw [if_pos z, show a - b = 0 by omega]
      rfl
    · rw [if_neg z]
  · have h := pk_sneg (a := a) (b := b) hb (by omega)
    rw [if_pos (Int32.le_of_lt h), show a - b = 0 by omega]
    rfl
section VIEW5
variable {v : Nat → Nat} {I I' : Nat → Int32} {A A' : Nat → Nat → Int32} {R : Nat → Option Nat} {G : Nat → Nat → Option Nat} {pl n : Nat} {ks : Nat → Nat}
theorem v_h (h : OKv v) {k : Nat} (hk : k < 6) : v k ≤ 20 := h.2.1 k hk
theorem rise_p (hc : CV v I A n ks) (h : OKv v) {a b : Nat} (ha : a < 6) (hb : b < 6) : p_rise I A R pl n ks (nI a) (nI b) = some (nI (v b - v a)) := by
  have e1 : ldO (A 0) 6 (nI a) = _ := ldN rfl ha (by decide) (hc.2.1 a ha)
  have e2 : ldO (A 0) 6 (nI b) = _ := ldN rfl hb (by decide) (hc.2.1 b hb)
  have h1 := v_h h ha; have h2 := v_h h hb
  simp only [p_rise, e1, e2, ob1]
  rw [mx0 (by omega) (by omega)]
theorem wants_m (hw : MW v (A 0)) (h : OKv v) {p a b : Nat} (hp : p < 2 ^ 31) (ha : a < 6) (hb : b < 6) : m_wants I A (nI p) (nI a) (nI b) = some (nI (load v p + (v b - v a))) := by
  have e1 : ldO (A 0) 2044 (0 + nI a) = _ := ldW hw (0 + a) (nI_add 0 a) (by omega)
  have e2 : ldO (A 0) 2044 (0 + nI b) = _ := ldW hw (0 + b) (nI_add 0 b) (by omega)
  have h1 := v_h h ha; have h2 := v_h h hb
  rw [Nat.zero_add] at e1 e2
  simp only [m_wants, e1, e2, ob1, load_m hw h hp, le0 (show v b < 2 ^ 30 by omega) (show v a < 2 ^ 30 by omega), nI_add]
/-- where one step leads to -/
def tgt (v : Nat → Nat) (p : Nat) (up : Bool) : Option Nat := if up then (if v (20 + p) ≤ 4 then some (v (20 + p) + 1) else none) else (if 1 ≤ v (20 + p) then some (v (20 + p) - 1) else none)
def byI (up : Bool) : Int32 := if up then 1 else -1
def mwk (v : Nat → Nat) (p : Nat) (up : Bool) : Bool := match tgt v p up with
  | none => false
  | some t => decide (load v p + (v t - v (v (20 + p))) ≤ v (15 + p))
theorem tgt_lt (h : OKv v) {p t : Nat} (hp : p < 5) {up : Bool} (ht : tgt v p up = some t) : t < 6 := by
  have := (v_sp h hp).2
  unfold tgt at ht
  cases up
  · simp only [Bool.false_eq_true, if_false] at ht
    split at ht
    · cases ht; omega
    · cases ht
  · simp only [if_true] at ht
    split at ht
    · cases ht; omega
    · cases ht
theorem step_in (h : OKv v) {p : Nat} (hp : p < 5) (up : Bool) : (x_isIn ((nI (v (20 + p)) + byI up).toInt64) 0 5 = some (if (tgt v p up).isSome then 1 else 0)) ∧ ∀ t, tgt v p up = some t → nI (v (20 + p)) + byI up = nI t := by
  have hs := (v_sp h hp).2
  have key : ∀ x, x ≤ 5 → x_isIn ((nI x + 1).toInt64) 0 5 = some (if x ≤ 4 then 1 else 0) ∧ x_isIn ((nI x + (-1)).toInt64) 0 5 = some (if 1 ≤ x then 1 else 0) := by decide +kernel
  obtain ⟨k1, k2⟩ := key _ hs
  cases up
  · refine ⟨?_, fun t ht => ?_⟩
    · show x_isIn ((nI (v (20 + p)) + (-1)).toInt64) 0 5 = _
      rw [k2]
      unfold tgt
      by_cases c : 1 ≤ v (20 + p)
      · simp [c]
      · simp [c]
    · unfold tgt at ht
      simp only [Bool.false_eq_true, if_false] at ht
      split at ht
      · cases ht
        exact sb_m1 (by omega)
      · cases ht
  · refine ⟨?_, fun t ht => ?_⟩
    · show x_isIn ((nI (v (20 + p)) + 1).toInt64) 0 5 = _
      rw [k1]
      unfold tgt
      by_cases c : v (20 + p) ≤ 4
      · simp [c]
      · simp [c]
    · unfold tgt at ht
      simp only [if_true] at ht
      split at ht
      · cases ht
        exact nI_1 _
      · cases ht
theorem mayWalk_p (hc : CV v I A n ks) (h : OKv v) (hR : R 1 = some pl) {p : Nat} (hp : p < 5) (up : Bool) : p_mayWalk I A R pl n ks (nI p) (byI up) = some (if mwk v p up then 1 else 0) := by
  obtain ⟨s1, s2⟩ := step_in h hp up
  have e3 : ldO (A 3) 5 (nI p) = _ := ldN rfl hp (by decide) (hc.2.2.1 p hp).2
  have e2 : ldO (A 2) 5 (nI p) = _ := ldN rfl hp (by decide) (hc.2.2.1 p hp).1
  have l1 := load_le h p
  have l2 := v_sp h hp
  simp only [p_mayWalk, e3, e2, ob1, s1, load_p hc h hR (show p < 2 ^ 31 by omega)]
  unfold mwk
  cases ht : tgt v p up with
  | none => rfl
  | some t =>
    have t6 := tgt_lt h hp ht
    have l3 := v_h h t6
    have l4 := v_h h (show v (20 + p) < 6 by omega)
    simp only [Option.isSome_some, if_true, n10, if_false, s2 t ht, rise_p hc h (show v (20 + p) < 6 by omega) t6, nI_add]
    have cc : (nI (v (15 + p)) < nI (load v p + (v t - v (v (20 + p))))) = _ := ltL (by omega) (by omega)
    simp only [cc]
    by_cases d : v (15 + p) < load v p + (v t - v (v (20 + p)))
    · rw [if_pos d, if_neg (by simp; omega)]
      rfl
    · rw [if_neg d, if_pos (by simp; omega)]
      rfl
theorem canWalk_m (hw : MW v (A 0)) (h : OKv v) {p : Nat} (hp : p < 5) (up : Bool) : m_canWalk I A (nI p) (byI up) = some (if mwk v p up then 1 else 0) := by
  obtain ⟨s1, s2⟩ := step_in h hp up
  have e20 : ldO (A 0) 2044 (20 + nI p) = _ := ldW hw (20 + p) (nI_add 20 p) (by omega)
  have e15 : ldO (A 0) 2044 (15 + nI p) = _ := ldW hw (15 + p) (nI_add 15 p) (by omega)
  have l1 := load_le h p
  have l2 := v_sp h hp
  simp only [m_canWalk, m_in_x, e20, e15, ob1, s1]
  unfold mwk
  cases ht : tgt v p up with
  | none => rfl
  | some t =>
    have t6 := tgt_lt h hp ht
    have l3 := v_h h t6
    simp only [Option.isSome_some, if_true, n10, if_false, s2 t ht, wants_m hw h (show p < 2 ^ 31 by omega) (show v (20 + p) < 6 by omega) t6]
    have cc : (nI (v (15 + p)) < nI (load v p + (v t - v (v (20 + p))))) = _ := ltL (by omega) (by omega)
    simp only [cc]
    by_cases d : v (15 + p) < load v p + (v t - v (v (20 + p)))
    · rw [if_pos d, if_neg (by simp; omega)]
      rfl
    · rw [if_neg d, if_pos (by simp; omega)]
      rfl
/-- the heaviest laden -/
def dI (v : Nat → Nat) (p : Nat) : Int32 := nI (load v p) - nI (v (15 + p))
def wst (v : Nat → Nat) : Nat → Int32
  | 0 => -1000000
  | i + 1 => mxI (wst v i) (dI v i)
theorem dI_gt (h : OKv v) {p : Nat} (hp : p < 5) : (-1000000 : Int32) < dI v p ∧ ¬ dI v p ≤ (-1000000000 : Int32) := by
  have l1 := load_le h p
  have l2 := (v_sp h hp).1
  have hi : (dI v p).toInt = (load v p : Int) - v (15 + p) := pk_sub_toInt (by omega) (by omega)
  refine ⟨?_, fun z => ?_⟩
  · rw [Int32.lt_iff_toInt_lt, hi, show (-1000000 : Int32).toInt = -1000000 from rfl]
    omega
  · rw [Int32.le_iff_toInt_le, hi, show (-1000000000 : Int32).toInt = -1000000000 from rfl] at z
    omega
theorem mx_le (x d : Int32) : (if d ≤ x then x else d) = mxI x d := by
  unfold mxI
  by_cases c : d ≤ x
  · rw [if_pos c, if_neg (Int32.not_lt.mpr c)]
  · rw [if_neg c, if_pos (Int32.not_le.mp c)]
theorem worst_p (hc : CV v I A n ks) (h : OKv v) (hR : R 1 = some pl) : p_worst I A R pl n ks = some (wst v (v 6)) := by
  have h6 := v_n h
  have e6 := many_p hc hR
  have hr := lp_run (fun k (s : Int32 × Int32) => p_worst_L5 I A R pl n ks k s.1 s.2) (fun i => (wst v i, nI i)) (v 6) (some (wst v (v 6), nI (v 6)))
    (fun k => by
      simp only [p_worst_L5, e6, ob1]
      rw [if_pos (nI_le (Nat.le_refl _) (by omega))])
    (fun k i hi => by
      have e2 : ldO (A 2) 5 (nI i) = _ := ldN rfl (show i < 5 by omega) (by decide) (hc.2.2.1 i (by omega)).1
      simp only [p_worst_L5, e6, ob1, load_p hc h hR (show i < 2 ^ 31 by omega), e2]
      rw [if_neg (nI_ge hi (by omega)), nI_1]
      rfl) NF (NFb (by omega))
  have hr : p_worst_L5 I A R pl n ks NF (-1000000) 0 = _ := hr
  simp only [p_worst, hr, ob2]
theorem greatest_m (hw : MW v (A 0)) (h : OKv v) (hv : v 6 ≠ 0) : m_greatest I A = some (wst v (v 6)) := by
  have h6 := v_n h
  have e6 : ldO (A 0) 2044 6 = _ := ldW hw 6 rfl (by decide)
  have hr := lp_run (fun k (s : Int32 × Int32) => m_greatest_L5 I A k s.1 s.2) (fun i => ((if i = 0 then -1000000000 else wst v i), nI i)) (v 6) (some (wst v (v 6), nI (v 6)))
    (fun k => by
      simp only [m_greatest_L5, e6, ob1]
      rw [if_pos (nI_le (Nat.le_refl _) (by omega)), if_neg hv])
    (fun k i hi => by
      have e15 : ldO (A 0) 2044 (15 + nI i) = _ := ldW hw (15 + i) (nI_add 15 i) (by omega)
      simp only [m_greatest_L5, e6, o1, load_m hw h (show i < 2 ^ 31 by omega), e15, ife]
      rw [if_neg (nI_ge hi (by omega)), nI_1, if_neg (show ¬ i + 1 = 0 by omega)]
      have hd := dI_gt h (show i < 5 by omega)
      show m_greatest_L5 I A k (if dI v i ≤ (if i = 0 then -1000000000 else wst v i) then (if i = 0 then -1000000000 else wst v i) else dI v i) (nI (i + 1)) = _
      by_cases z : i = 0
      · subst z
        rw [if_pos rfl, if_neg hd.2]
        show m_greatest_L5 I A k (dI v 0) (nI (0 + 1)) = m_greatest_L5 I A k (mxI (-1000000) (dI v 0)) (nI (0 + 1))
        unfold mxI
        rw [if_pos hd.1]
      · rw [if_neg z, mx_le]
        rfl) NF (NFb (by omega))
  have hr : m_greatest_L5 I A NF (-1000000000) 0 = _ := hr
  simp only [m_greatest, hr, ob2]
/-- how far one gets -/
def rsN (v : Nat → Nat) (up : Bool) (a : Nat) : Nat → Nat := fun i => if up then v (a + i + 1) - v (a + i) else v (a - i - 1) - v (a - i)
def gmx (f : Nat → Nat) : Nat → Nat
  | 0 => 0
  | i + 1 => max (gmx f i) (f i)
theorem gmx_le {f : Nat → Nat} {b : Nat} : ∀ k, (∀ i, i < k → f i ≤ b) → gmx f k ≤ b := by
  intro k
  induction k with
  | zero => intro _; exact Nat.zero_le _
  | succ k ih =>
    intro h
    have h1 := ih (fun i hi => h i (by omega))
    have h2 := h k (by omega)
    unfold gmx
    omega
theorem gmx_sub {f : Nat → Nat} {s : Nat} : ∀ k, gmx (fun i => f i - s) k = gmx f k - s := by
  intro k
  induction k with
  | zero => simp [gmx]
  | succ k ih =>
    unfold gmx
    rw [ih]
    omega
def posN (up : Bool) (a i : Nat) : Nat := if up then a + i else a - i
theorem pos_s {up : Bool} {a b i d : Nat} (hd : if up then b = a + d else a = b + d) (hi : i < d) : nI (posN up a i) + byI up = nI (posN up a (i + 1)) := by
  cases up
  · simp only [Bool.false_eq_true, if_false] at hd
    show nI (a - i) + (-1) = nI (a - (i + 1))
    rw [sb_m1 (by omega)]
    rfl
  · show nI (a + i) + 1 = nI (a + (i + 1))
    exact nI_1 _
theorem lacks_eq (hw : MW v (A 0)) (h : OKv v) (hc : CV v (sh 200 I') (sh 200 A') n ks) (hR : R 201 = some pl) {p b : Nat} (hp : p < 5) (hb : b < 6) (a2 : Int32) : ∃ (up : Bool) (mo : Nat), (if nI b ≤ nI (v (20 + p)) then (some (-1) : Option Int32) else some 1) = some (byI up) ∧ mo < 2 ^ 20 ∧ x_lacksTo_L33 I' A' R G pl n ks (nI p) (nI b) (byI up) NF 0 (nI (v (20 + p))) = some (nI (mo - v (15 + p)), nI b) ∧ m_gets_L67 I A (nI p) (nI b) a2 (byI up) NF 0 (nI (v (20 + p))) = some (nI mo, nI b) := by
  have l1 := load_le h p
  obtain ⟨l2, l3⟩ := v_sp h hp
  have e2 : ldO (A' 202) 5 (nI p) = _ := ldN rfl hp (by decide) (hc.2.2.1 p hp).1
  have go : ∀ (up : Bool) (d : Nat), (if up then b = v (20 + p) + d else v (20 + p) = b + d) → x_lacksTo_L33 I' A' R G pl n ks (nI p) (nI b) (byI up) NF 0 (nI (v (20 + p))) = some (nI (gmx (fun i => load v p + rsN v up (v (20 + p)) i) d - v (15 + p)), nI b) ∧ m_gets_L67 I A (nI p) (nI b) a2 (byI up) NF 0 (nI (v (20 + p))) = some (nI (gmx (fun i => load v p + rsN v up (v (20 + p)) i) d), nI b) ∧ gmx (fun i => load v p + rsN v up (v (20 + p)) i) d < 2 ^ 20 := by
    intro up d hd
    have hd5 : d ≤ 5 := by cases up <;> simp at hd <;> omega
    have hpos : ∀ i, i ≤ d → posN up (v (20 + p)) i < 6 := by
      intro i hi
      unfold posN
      cases up <;> simp at hd ⊢ <;> omega
    have hend : posN up (v (20 + p)) d = b := by
      unfold posN
      cases up <;> simp at hd ⊢ <;> omega
    have hne : ∀ i, i < d → posN up (v (20 + p)) i ≠ b := by
      intro i hi
      unfold posN
      cases up <;> simp at hd ⊢ <;> omega
    have hrs : ∀ i, i < d → rsN v up (v (20 + p)) i = v (posN up (v (20 + p)) (i + 1)) - v (posN up (v (20 + p)) i) := by
      intro i hi
      unfold rsN posN
      cases up
      · rfl
      · rfl
    have hrl : ∀ i, i < d → load v p + rsN v up (v (20 + p)) i ≤ 340 := by
      intro i hi
      rw [hrs i hi]
      have := v_h h (hpos (i + 1) (by omega))
      omega
    have hp0 : posN up (v (20 + p)) 0 = v (20 + p) := by unfold posN; cases up <;> rfl
    refine ⟨?_, ?_, Nat.lt_of_le_of_lt (gmx_le d hrl) (by decide)⟩
    · have hr := lp_run (fun k (s : Int32 × Int32) => x_lacksTo_L33 I' A' R G pl n ks (nI p) (nI b) (byI up) k s.1 s.2) (fun i => (nI (gmx (fun i => load v p + rsN v up (v (20 + p)) i) i - v (15 + p)), nI (posN up (v (20 + p)) i))) d (some (nI (gmx (fun i => load v p + rsN v up (v (20 + p)) i) d - v (15 + p)), nI b))
        (fun k => by
          simp only [x_lacksTo_L33, hend]
          rw [if_pos trivial])
        (fun k i hi => by
          have cc : (nI (posN up (v (20 + p)) i) = nI b) = _ := eqL b (by have := hpos i (by omega); omega) (by omega)
          have g1 := gmx_le (f := fun i => load v p + rsN v up (v (20 + p)) i) i (fun j hj => hrl j (by omega))
          have g2 := hrl i hi
          simp only [x_lacksTo_L33, cc, if_neg (hne i hi), load_p (R := sh 200 R) hc h hR (show p < 2 ^ 31 by omega), pos_s hd hi, rise_p (R := sh 200 R) (pl := pl) hc h (hpos i (by omega)) (hpos (i + 1) (by omega)), e2, ob1, nI_add, ← hrs i hi]
          rw [mx1 (by omega) (by omega) (by omega)]
          have : max (gmx (fun i => load v p + rsN v up (v (20 + p)) i) i - v (15 + p)) (load v p + rsN v up (v (20 + p)) i - v (15 + p)) = gmx (fun i => load v p + rsN v up (v (20 + p)) i) (i + 1) - v (15 + p) := by
            show _ = max (gmx (fun i => load v p + rsN v up (v (20 + p)) i) i) (load v p + rsN v up (v (20 + p)) i) - v (15 + p)
            omega
          rw [this]) NF (NFb (by omega))
      rw [hp0] at hr
      have e0 : gmx (fun i => load v p + rsN v up (v (20 + p)) i) 0 - v (15 + p) = 0 := by simp [gmx]
      rw [e0] at hr
      exact hr
    · have hr := lp_run (fun k (s : Int32 × Int32) => m_gets_L67 I A (nI p) (nI b) a2 (byI up) k s.1 s.2) (fun i => (nI (gmx (fun i => load v p + rsN v up (v (20 + p)) i) i), nI (posN up (v (20 + p)) i))) d (some (nI (gmx (fun i => load v p + rsN v up (v (20 + p)) i) d), nI b))
        (fun k => by
          simp only [m_gets_L67, hend]
          rw [if_pos trivial])
        (fun k i hi => by
          have cc : (nI (posN up (v (20 + p)) i) = nI b) = _ := eqL b (by have := hpos i (by omega); omega) (by omega)
          have g1 := gmx_le (f := fun i => load v p + rsN v up (v (20 + p)) i) i (fun j hj => hrl j (by omega))
          have g2 := hrl i hi
          simp only [m_gets_L67, cc, if_neg (hne i hi), pos_s hd hi, wants_m hw h (show p < 2 ^ 31 by omega) (hpos i (by omega)) (hpos (i + 1) (by omega)), ob1, ← hrs i hi]
          have c2 : (nI (load v p + rsN v up (v (20 + p)) i) ≤ nI (gmx (fun i => load v p + rsN v up (v (20 + p)) i) i)) = _ := leL (by omega) (by omega)
          simp only [c2]
          show _ = m_gets_L67 I A (nI p) (nI b) a2 (byI up) k (nI (max (gmx (fun i => load v p + rsN v up (v (20 + p)) i) i) (load v p + rsN v up (v (20 + p)) i))) _
          by_cases q : load v p + rsN v up (v (20 + p)) i ≤ gmx (fun i => load v p + rsN v up (v (20 + p)) i) i
          · rw [if_pos q, Nat.max_eq_left q]
          · rw [if_neg q, Nat.max_eq_right (by omega)]) NF (NFb (by omega))
      rw [hp0] at hr
      exact hr
  have c : (nI b ≤ nI (v (20 + p))) = _ := leL (by omega) (by omega)
  simp only [c]
  by_cases q : b ≤ v (20 + p)
  · obtain ⟨g1, g2, g3⟩ := go false (v (20 + p) - b) (by simp; omega)
    exact ⟨false, _, by rw [if_pos q]; rfl, g3, g1, g2⟩
  · obtain ⟨g1, g2, g3⟩ := go true (b - v (20 + p)) (by simp; omega)
    exact ⟨true, _, by rw [if_neg q]; rfl, g3, g1, g2⟩
theorem eq_gets (hw : MW v (A 0)) (h : OKv v) (hc : CV v (sh 200 I') (sh 200 A') n ks) (hR : R 201 = some pl) (a b z : Int32) : ∃ r, x_gets I' A' R G pl n ks a b z = some r ∧ m_gets I A a b z = some r := by
  have h6 := v_n h
  rcases person_or (I := I) (A := A) (R := R) (G := G) (pl := pl) hw h a with ⟨e1, e2⟩ | ⟨p, hp, rfl, e1, e2⟩
  · exact ⟨_, by simp only [x_gets, e2 _ _ _ _ hc hR, ob1, n00, if_true]; rfl, by simp only [m_gets, e1, ob1, n00, if_true]⟩
  · have e2 := e2 _ _ _ _ hc hR
    have p5 : p < 5 := by omega
    rcases in_ab b (L := 0) (H := 5) 0 5 rfl rfl (by decide) with h1 | ⟨k, -, hk, rfl, h1⟩
    · exact ⟨_, by simp only [x_gets, e2, ob1, n10, if_false, x_isPlace, h1, zO_0, n00, if_true]; rfl, by simp only [m_gets, e1, ob1, n10, if_false, m_in_x, h1, n00, if_true]⟩
    · rcases in_ab z (L := 0) (H := 1) 0 1 rfl rfl (by decide) with h2 | ⟨w, -, hw1, rfl, h2⟩
      · exact ⟨_, by simp only [x_gets, e2, ob1, n10, if_false, x_isPlace, h1, zO_1, x_isHalf, h2, zO_0, n00, if_true]; rfl, by simp only [m_gets, e1, ob1, n10, if_false, m_in_x, h1, h2, n00, if_true]⟩
      · have e20 : ldO (A 0) 2044 (20 + nI p) = _ := ldW hw (20 + p) (nI_add 20 p) (by omega)
        have e15 : ldO (A 0) 2044 (15 + nI p) = _ := ldW hw (15 + p) (nI_add 15 p) (by omega)
        have e3 : ldO (A' 203) 5 (nI p) = _ := ldN rfl p5 (by decide) (hc.2.2.1 p p5).2
        obtain ⟨up, mo, g1, g2, g3, g4⟩ := lacks_eq (I := I) (A := A) (G := G) hw h hc hR p5 (show k < 6 by omega) (nI w)
        have l2 := (v_sp h p5).1
        have c : (nI mo ≤ nI (v (15 + p))) = _ := leL (by omega) (by omega)
        have hl : (if mo ≤ v (15 + p) then (some 0 : Option Int32) else some (nI mo - nI (v (15 + p)))) = some (nI (mo - v (15 + p))) := by
          by_cases q : mo ≤ v (15 + p)
          · rw [if_pos q, show mo - v (15 + p) = 0 by omega]
            rfl
          · rw [if_neg q, pk_sub (by omega)]
        simp only [x_gets, m_gets, x_lacksTo, e1, e2, ob1, n10, if_false, x_isPlace, m_in_x, h1, zO_1, x_isHalf, h2, e20, e3, g1, g3, g4, ob2, e15, c, hl]
        by_cases q1 : nI w = 1
        · simp only [q1, if_true]
          exact ⟨_, rfl, rfl⟩
        · by_cases q2 : nI (mo - v (15 + p)) = 0
          · simp only [q1, q2, if_true, if_false]
            exact ⟨_, rfl, rfl⟩
          · simp only [q1, q2, if_false]
            exact ⟨_, rfl, rfl⟩
end VIEW5
