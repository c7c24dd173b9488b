/-! PLAIN LAW 1: numbers, loops, the view of a parish -/
set_option maxRecDepth 100000
theorem lp_run {σ ρ : Type} (L : Nat → σ → Option ρ) (t : Nat → σ) (e : Nat) (r : Option ρ) (hx : ∀ k, L (k + 1) (t e) = r) (hs : ∀ k i, i < e → L (k + 1) (t i) = L k (t (i + 1))) (k : Nat) (hk : e < k) : L k (t 0) = r := by
  have key : ∀ d i k, i + d = e → d < k → L k (t i) = r := by
    intro d
    induction d with
    | zero =>
      intro i k h1 h2
      obtain ⟨j, rfl⟩ : ∃ j, k = j + 1 := ⟨k - 1, by omega⟩
      obtain rfl : i = e := by omega
      exact hx j
    | succ d ih =>
      intro i k h1 h2
      obtain ⟨j, rfl⟩ : ∃ j, k = j + 1 := ⟨k - 1, by omega⟩
      rw [hs j i (by omega)]
      exact ih (i + 1) j (by omega) (by omega)
  exact key e 0 k (by omega) hk
def sumN (f : Nat → Nat) : Nat → Nat
  | 0 => 0
  | k + 1 => sumN f k + f k
theorem sumN_le {f : Nat → Nat} {b : Nat} : ∀ k, (∀ i, i < k → f i ≤ b) → sumN f k ≤ k * b := by
  intro k
  induction k with
  | zero => intro _; exact Nat.le_of_eq (by simp [sumN])
  | succ k ih =>
    intro h
    have h1 := ih (fun i hi => h i (by omega))
    have h2 := h k (by omega)
    rw [sumN, Nat.succ_mul]
    omega
theorem sumN_congr {f g : Nat → Nat} : ∀ k, (∀ i, i < k → f i = g i) → sumN f k = sumN g k := by
  intro k
  induction k with
  | zero => intro _; rfl
  | succ k ih =>
    intro h
    rw [sumN, sumN, ih (fun i hi => h i (by omega)), h k (by omega)]
/-- a literal -/
theorem eqL {a : Nat} (b : Nat) (ha : a < 2 ^ 31) (hb : b < 2 ^ 31) : (nI a = nI b) = (a = b) := propext (nI_eq ha hb)
theorem leL {a b : Nat} (ha : a < 2 ^ 31) (hb : b < 2 ^ 31) : (nI a ≤ nI b) = (a ≤ b) := propext (nI_leI ha hb)
theorem ltL {a b : Nat} (ha : a < 2 ^ 31) (hb : b < 2 ^ 31) : (nI a < nI b) = (a < b) := propext (nI_ltI ha hb)
theorem NFb {n : Nat} (h : n < 100000) : n < NF := Nat.lt_trans h (by decide)
theorem ldN {f : Nat → Int32} {N k : Nat} {i x : Int32} (hi : i = nI k) (hk : k < N) (hN : N < 2 ^ 31) (hx : f k = x) : ldO f N i = some x := by
  subst hi
  have := vp_in_nI hk hN
  unfold ldO
  rw [if_neg this, nI_clamp (by omega), hx]
theorem stN {f : Nat → Int32} {N k : Nat} {i : Int32} (x : Int32) (hi : i = nI k) (hk : k < N) (hN : N < 2 ^ 31) : stO f N i x = some (upd f k x) := by
  subst hi
  have := vp_in_nI hk hN
  unfold stO
  rw [if_neg this, nI_clamp (by omega)]
/-- bits of small sets -/
theorem has_x : ∀ x, x < 256 → ∀ m, m < 8 → x_has (nI x) (nI m) = some (nI (x / 2 ^ m % 2)) := by decide +kernel
theorem has_m : ∀ x, x < 256 → ∀ m, m < 8 → m_has (nI x) (nI m) = some (nI (x / 2 ^ m % 2)) := by decide +kernel
def popc (x : Nat) : Nat := x % 2 + x / 2 % 2 + x / 4 % 2 + x / 8 % 2 + x / 16 % 2 + x / 32 % 2 + x / 64 % 2 + x / 128 % 2
theorem popc_x : ∀ x, x < 256 → ji_bitCount (nI x) = some (nI (popc x)) := by decide +kernel
theorem shl_1 : ∀ k, k < 10 → (1 : Int32) <<< (nI k &&& 31) = nI (2 ^ k) := by decide +kernel
theorem or_b : ∀ k, k < 8 → ∀ a, a < 2 ^ k → nI a ||| nI (2 ^ k) = nI (a + 2 ^ k) := by decide +kernel
theorem or_0 (x : Int32) : x ||| 0 = x := by
  apply Int32.toBitVec_inj.mp
  simp
theorem andn_b : ∀ a, a < 256 → ∀ j, j < 8 → a / 2 ^ j % 2 = 1 → nI a &&& (((1 : Int32) <<< (nI j &&& 31)) ^^^ (-1)) = nI (a - 2 ^ j) := by decide +kernel
/-- the model's parish -/
def MW (v : Nat → Nat) (w : Nat → Int32) : Prop := ∀ k, k < 73 → w k = nI (v k)
def OKv (v : Nat → Nat) : Prop := (v 6 ≤ 5 ∧ v 7 ≤ 8 ∧ v 8 ≤ 2000 ∧ (v 9 = if v 6 = 0 then 0 else 1)) ∧ (∀ k, k < 6 → v k ≤ 20) ∧ (∀ p, p < 5 → v (15 + p) ≤ 99 ∧ v (20 + p) ≤ 5) ∧ (∀ p, p < v 6 → 1 ≤ v (10 + p) ∧ v (10 + p) ≤ 5 ∧ 1 ≤ v (15 + p)) ∧ (∀ m, m < v 7 → v (25 + m) < v 6 ∧ v (33 + m) < v 6 ∧ v (41 + m) ≤ 20 ∧ v (49 + m) ≤ 99 ∧ v (57 + m) ≤ 5) ∧ (∀ m, m < 8 → v (65 + m) ≤ 1) ∧ (∀ m, m < 8 → v 7 ≤ m → v (65 + m) = 0)
def kmask (v : Nat → Nat) : Nat := v 65 + 2 * v 66 + 4 * v 67 + 8 * v 68 + 16 * v 69 + 32 * v 70 + 64 * v 71 + 128 * v 72
/-- the component's parish -/
def CV (v : Nat → Nat) (I : Nat → Int32) (A : Nat → Nat → Int32) (n : Nat) (ks : Nat → Nat) : Prop := (n = v 6 ∧ (∀ p, p < n → ks p = v (10 + p)) ∧ I 4 = nI (v 7) ∧ I 10 = nI (kmask v) ∧ I 11 = nI (v 8)) ∧ (∀ k, k < 6 → A 0 k = nI (v k)) ∧ (∀ p, p < 5 → A 2 p = nI (v (15 + p)) ∧ A 3 p = nI (v (20 + p))) ∧ ∀ m, m < 8 → A 5 m = nI (v (25 + m)) ∧ A 6 m = nI (v (33 + m)) ∧ A 7 m = nI (v (41 + m)) ∧ A 8 m = nI (v (49 + m)) ∧ A 9 m = nI (v (57 + m))
theorem kmask_lt {v : Nat → Nat} (h : OKv v) : kmask v < 256 := by
  have a := h.2.2.2.2.2.1
  have a0 := a 0 (by decide); have a1 := a 1 (by decide); have a2 := a 2 (by decide); have a3 := a 3 (by decide); have a4 := a 4 (by decide); have a5 := a 5 (by decide); have a6 := a 6 (by decide); have a7 := a 7 (by decide)
  unfold kmask
  simp only [Nat.reduceAdd] at a0 a1 a2 a3 a4 a5 a6 a7
  omega
theorem kmask_b {v : Nat → Nat} (h : OKv v) {m : Nat} (hm : m < 8) : kmask v / 2 ^ m % 2 = v (65 + m) := by
  have a := h.2.2.2.2.2.1
  have a0 := a 0 (by decide); have a1 := a 1 (by decide); have a2 := a 2 (by decide); have a3 := a 3 (by decide); have a4 := a 4 (by decide); have a5 := a 5 (by decide); have a6 := a 6 (by decide); have a7 := a 7 (by decide)
  unfold kmask
  simp only [Nat.reduceAdd] at a0 a1 a2 a3 a4 a5 a6 a7
  rcases (show m = 0 ∨ m = 1 ∨ m = 2 ∨ m = 3 ∨ m = 4 ∨ m = 5 ∨ m = 6 ∨ m = 7 by omega) with rfl | rfl | rfl | rfl | rfl | rfl | rfl | rfl <;> simp only [Nat.reducePow, Nat.reduceAdd] <;> omega
theorem kmask_p {v : Nat → Nat} (h : OKv v) : popc (kmask v) = v 65 + v 66 + v 67 + v 68 + v 69 + v 70 + v 71 + v 72 := by
  have b0 := kmask_b h (m := 0) (by decide); have b1 := kmask_b h (m := 1) (by decide); have b2 := kmask_b h (m := 2) (by decide); have b3 := kmask_b h (m := 3) (by decide); have b4 := kmask_b h (m := 4) (by decide); have b5 := kmask_b h (m := 5) (by decide); have b6 := kmask_b h (m := 6) (by decide); have b7 := kmask_b h (m := 7) (by decide)
  simp only [Nat.reducePow, Nat.reduceAdd, Nat.div_one] at b0 b1 b2 b3 b4 b5 b6 b7
  unfold popc
  omega
section VIEW
variable {v : Nat → Nat} {I : Nat → Int32} {A : Nat → Nat → Int32} {R : Nat → Option Nat} {G : Nat → Nat → Option Nat} {pl n : Nat} {ks : Nat → Nat}
theorem ldW (hw : MW v (A 0)) {i : Int32} (k : Nat) (hi : i = nI k) (hk : k < 73) : ldO (A 0) 2044 i = some (nI (v k)) := ldN hi (by omega) (by decide) (hw k hk)
theorem v_n (h : OKv v) : v 6 ≤ 5 := h.1.1
theorem v_m (h : OKv v) : v 7 ≤ 8 := h.1.2.1
theorem v_d (h : OKv v) : v 8 ≤ 2000 := h.1.2.2.1
theorem v_k (h : OKv v) {p : Nat} (hp : p < v 6) : 1 ≤ v (10 + p) ∧ v (10 + p) ≤ 5 := ⟨(h.2.2.2.1 p hp).1, (h.2.2.2.1 p hp).2.1⟩
theorem v_pr (h : OKv v) {m : Nat} (hm : m < v 7) : v (25 + m) < v 6 ∧ v (33 + m) < v 6 ∧ v (41 + m) ≤ 20 ∧ v (49 + m) ≤ 99 ∧ v (57 + m) ≤ 5 := h.2.2.2.2.1 m hm
theorem v_sp (h : OKv v) {p : Nat} (hp : p < 5) : v (15 + p) ≤ 99 ∧ v (20 + p) ≤ 5 := h.2.2.1 p hp
theorem v_kp (h : OKv v) {m : Nat} (hm : m < 8) : v (65 + m) ≤ 1 := h.2.2.2.2.2.1 m hm
/-- what a word weighs -/
def pnd (v : Nat → Nat) (m : Nat) : Nat := if v (65 + m) = 1 then 0 else if v (10 + v (25 + m)) = 1 then v (41 + m) else if v (10 + v (25 + m)) = 2 then v (41 + m) / 2 else if v (10 + v (25 + m)) = 3 then (if v (57 + m) = v (20 + v (33 + m)) then 2 * v (41 + m) else v (41 + m)) else if v (10 + v (25 + m)) = 4 then (if 10 ≤ v (41 + m) then 10 else v (41 + m)) else 0
theorem pnd_le (h : OKv v) {m : Nat} (hm : m < v 7) : pnd v m ≤ 40 := by
  have := (v_pr h hm).2.2.1
  unfold pnd
  split
  · omega
  · split
    · omega
    · split
      · omega
      · split
        · split <;> omega
        · split
          · split <;> omega
          · omega
theorem pounds_m (hw : MW v (A 0)) (h : OKv v) {m : Nat} (hm : m < v 7) : m_poundsOf I A (nI m) = some (nI (pnd v m)) := by
  have h7 := v_m h; have h6 := v_n h
  obtain ⟨p1, p2, p3, p4, p5⟩ := v_pr h hm
  have hk := v_k h p1
  have hkp := v_kp h (m := m) (by omega)
  have hsp := (v_sp h (p := v (33 + m)) (by omega)).2
  have e65 : ldO (A 0) 2044 (65 + nI m) = _ := ldW hw (65 + m) (nI_add 65 m) (by omega)
  have e41 : ldO (A 0) 2044 (41 + nI m) = _ := ldW hw (41 + m) (nI_add 41 m) (by omega)
  have e25 : ldO (A 0) 2044 (25 + nI m) = _ := ldW hw (25 + m) (nI_add 25 m) (by omega)
  have e57 : ldO (A 0) 2044 (57 + nI m) = _ := ldW hw (57 + m) (nI_add 57 m) (by omega)
  have e33 : ldO (A 0) 2044 (33 + nI m) = _ := ldW hw (33 + m) (nI_add 33 m) (by omega)
  have e10 : ldO (A 0) 2044 (10 + nI (v (25 + m))) = _ := ldW hw (10 + v (25 + m)) (nI_add 10 _) (by omega)
  have e20 : ldO (A 0) 2044 (20 + nI (v (33 + m))) = _ := ldW hw (20 + v (33 + m)) (nI_add 20 _) (by omega)
  have c1 : (nI (v (65 + m)) = (1 : Int32)) = (v (65 + m) = 1) := eqL 1 (by omega) (by decide)
  have k1 : (nI (v (10 + v (25 + m))) = (1 : Int32)) = _ := eqL 1 (by omega) (by decide)
  have k2 : (nI (v (10 + v (25 + m))) = (2 : Int32)) = _ := eqL 2 (by omega) (by decide)
  have k3 : (nI (v (10 + v (25 + m))) = (3 : Int32)) = _ := eqL 3 (by omega) (by decide)
  have k4 : (nI (v (10 + v (25 + m))) = (4 : Int32)) = _ := eqL 4 (by omega) (by decide)
  have c2 : (nI (v (57 + m)) = nI (v (20 + v (33 + m)))) = _ := eqL _ (by omega) (by omega)
  have c3 : ((10 : Int32) ≤ nI (v (41 + m))) = _ := leL (a := 10) (by decide) (by omega)
  have d2 : divO (nI (v (41 + m))) 2 = some (nI (v (41 + m) / 2)) := by
    unfold divO
    rw [if_neg (by decide)]
    exact congrArg some (pk_div (d := 2) (by omega) (by decide) (by decide))
  have t2 : (2 : Int32) * nI (v (41 + m)) = nI (2 * v (41 + m)) := pk_mul 2 _
  simp only [m_poundsOf, m_lesser, e65, e41, e25, e57, e33, e10, e20, ob1, c1, k1, k2, k3, k4, c2, c3, d2, t2, pnd]
  rcases (show v (65 + m) = 0 ∨ v (65 + m) = 1 by omega) with z | z
  · rcases (show v (10 + v (25 + m)) = 1 ∨ v (10 + v (25 + m)) = 2 ∨ v (10 + v (25 + m)) = 3 ∨ v (10 + v (25 + m)) = 4 ∨ v (10 + v (25 + m)) = 5 by omega) with e | e | e | e | e
    · simp [z, e]
    · simp [z, e]
    · by_cases q : v (57 + m) = v (20 + v (33 + m)) <;> simp [z, e, q]
    · by_cases q : 10 ≤ v (41 + m) <;> simp [z, e, q] <;> rfl
    · simp [z, e] <;> rfl
  · simp [z] <;> rfl
/-- the component's words -/
def RO (R : Nat → Option Nat) (pl : Nat) : Prop := R 1 = some pl
theorem grdO {r : Option Nat} {a : Nat} (h : r = some a) : grd r a = some () := by unfold grd; rw [if_pos h]
theorem pgN {n k : Nat} {i : Int32} (hi : i = nI k) (hk : k < n) (hn : n < 2 ^ 31) : pgO n i = some k := by
  subst hi
  have := vp_in_nI hk hn
  unfold pgO
  rw [if_neg this, nI_clamp (by omega)]
theorem k_pnd (kd : Nat) (a b : Nat) (ha : a < 2 ^ 30) (h1 : 1 ≤ kd) (h5 : kd ≤ 5) (hb : b ≤ 1) : k_pounds kd (nI a) (nI b) = some (nI (if kd = 1 then a else if kd = 2 then a / 2 else if kd = 3 then (if b = 1 then 2 * a else a) else if kd = 4 then (if 10 ≤ a then 10 else a) else 0)) := by
  have d2 : divO (nI a) 2 = some (nI (a / 2)) := by
    unfold divO
    rw [if_neg (by decide)]
    exact congrArg some (pk_div (d := 2) (by omega) (by decide) (by decide))
  have t2 : (2 : Int32) * nI a = nI (2 * a) := pk_mul 2 _
  have c0 : (nI b = (0 : Int32)) = (b = 0) := eqL 0 (by omega) (by decide)
  have c3 : (nI a < (10 : Int32)) = (a < 10) := ltL (b := 10) (by omega) (by decide)
  rcases (show kd = 1 ∨ kd = 2 ∨ kd = 3 ∨ kd = 4 ∨ kd = 5 by omega) with rfl | rfl | rfl | rfl | rfl
  · rfl
  · simp only [k_pounds, k10_pounds, k9_pounds, ob1, d2]
    rfl
  · simp only [k_pounds, k11_pounds, k9_pounds, ob1, c0, t2]
    rcases (show b = 0 ∨ b = 1 by omega) with rfl | rfl <;> rfl
  · simp only [k_pounds, k12_pounds, mnI, c3]
    by_cases hc : a < 10
    · simp [hc, Nat.not_le.mpr hc]
    · simp [hc, Nat.not_lt.mp hc]
      rfl
  · rfl
theorem pounds_p (hc : CV v I A n ks) (h : OKv v) (hR : R 1 = some pl) {m : Nat} (hm : m < v 7) : p_pounds I A R pl n ks (nI m) = some (nI (pnd v m)) := by
  have h7 := v_m h; have h6 := v_n h
  obtain ⟨⟨z1, z2, z3, z4, z5⟩, y1, y2, y3⟩ := hc
  obtain ⟨p1, p2, p3, p4, p5⟩ := v_pr h hm
  have hk := v_k h p1
  have hkp := v_kp h (m := m) (by omega)
  obtain ⟨a5, a6, a7, a8, a9⟩ := y3 m (by omega)
  have e5 : ldO (A 5) 8 (nI m) = _ := ldN rfl (by omega) (by decide) a5
  have e6 : ldO (A 6) 8 (nI m) = _ := ldN rfl (by omega) (by decide) a6
  have e7 : ldO (A 7) 8 (nI m) = _ := ldN rfl (by omega) (by decide) a7
  have e9 : ldO (A 9) 8 (nI m) = _ := ldN rfl (by omega) (by decide) a9
  have e3 : ldO (A 3) 5 (nI (v (33 + m))) = _ := ldN rfl (by omega) (by decide) (y2 (v (33 + m)) (by omega)).2
  have eh : x_has (I 10) (nI m) = some (nI (v (65 + m))) := by rw [z4, has_x _ (kmask_lt h) m (by omega), kmask_b h (by omega)]
  have eg : pgO n (nI (v (25 + m))) = some (v (25 + m)) := pgN rfl (by omega) (by omega)
  have ek : ks (v (25 + m)) = v (10 + v (25 + m)) := z2 _ (by omega)
  have c0 : (nI (v (65 + m)) = (0 : Int32)) = (v (65 + m) = 0) := eqL 0 (by omega) (by decide)
  have c2 : (nI (v (57 + m)) = nI (v (20 + v (33 + m)))) = _ := eqL _ (by have := (v_sp h (p := v (33 + m)) (by omega)).2; omega) (by have := (v_sp h (p := v (33 + m)) (by omega)).2; omega)
  have hq : ∀ b : Nat, b ≤ 1 → k_pounds (v (10 + v (25 + m))) (nI (v (41 + m))) (nI b) = _ := fun b hb => k_pnd _ _ b (by omega) hk.1 hk.2 hb
  have hq0 : k_pounds (v (10 + v (25 + m))) (nI (v (41 + m))) 0 = _ := hq 0 (by decide)
  have hq1 : k_pounds (v (10 + v (25 + m))) (nI (v (41 + m))) 1 = _ := hq 1 (by decide)
  simp only [p_pounds, eh, ob1, c0, grdO hR, e5, eg, e7, e9, e6, e3, c2, ek]
  rcases (show v (65 + m) = 0 ∨ v (65 + m) = 1 by omega) with z | z
  · by_cases q : v (57 + m) = v (20 + v (33 + m))
    · simp [z, q, hq1, pnd]
    · simp [z, q, hq0, pnd]
  · simp [z, pnd] <;> rfl
/-- what one carries -/
def ldf (v : Nat → Nat) (p : Nat) : Nat → Nat := fun m => if v (25 + m) = p then pnd v m else 0
def load (v : Nat → Nat) (p : Nat) : Nat := sumN (ldf v p) (v 7)
theorem ldf_le (h : OKv v) {p m : Nat} (hm : m < v 7) : ldf v p m ≤ 40 := by
  unfold ldf
  split
  · exact pnd_le h hm
  · omega
theorem load_le (h : OKv v) (p : Nat) : load v p ≤ 320 := by
  have h1 := sumN_le (f := ldf v p) (v 7) (fun i hi => ldf_le h hi)
  have h2 := v_m h
  have h3 : v 7 * 40 ≤ 8 * 40 := Nat.mul_le_mul_right 40 h2
  exact Nat.le_trans h1 h3
theorem load_m (hw : MW v (A 0)) (h : OKv v) {p : Nat} (hp : p < 2 ^ 31) : m_loadOf I A (nI p) = some (nI (load v p)) := by
  have h7 := v_m h; have h6 := v_n h
  have e7 : ldO (A 0) 2044 7 = _ := ldW hw 7 rfl (by decide)
  have hr := lp_run (fun k (s : Int32 × Int32) => m_loadOf_L4 I A (nI p) k s.1 s.2) (fun i => (nI (sumN (ldf v p) i), nI i)) (v 7) (some (nI (load v p), nI (v 7)))
    (fun k => by
      simp only [m_loadOf_L4, e7, ob1]
      rw [if_pos (nI_le (Nat.le_refl _) (by omega))]
      rfl)
    (fun k i hi => by
      have e25 : ldO (A 0) 2044 (25 + nI i) = _ := ldW hw (25 + i) (nI_add 25 i) (by omega)
      have q1 := (v_pr h hi).1
      have c : (nI (v (25 + i)) = nI p) = _ := eqL p (by omega) hp
      simp only [m_loadOf_L4, e7, ob1, e25, c, pounds_m hw h hi]
      rw [if_neg (nI_ge hi (by omega)), sumN, ← nI_add, nI_1]
      unfold ldf
      by_cases hc : v (25 + i) = p
      · rw [if_pos hc, if_pos hc]
      · rw [if_neg hc, if_neg hc]
        rfl) NF (NFb (by omega))
  have hr : m_loadOf_L4 I A (nI p) NF 0 0 = _ := hr
  simp only [m_loadOf, hr, ob2]
def ldtf (v : Nat → Nat) (p t : Nat) : Nat → Nat := fun m => if v (25 + m) = p then pnd v m * t / 10 else 0
def loadT (v : Nat → Nat) (p t : Nat) : Nat := sumN (ldtf v p t) (v 7)
theorem loadT_10 (p : Nat) : loadT v p 10 = load v p := sumN_congr _ (fun i _ => by
  unfold ldtf ldf
  split
  · exact Nat.mul_div_cancel _ (by decide)
  · rfl)
theorem loadBy_p (hc : CV v I A n ks) (h : OKv v) (hR : R 1 = some pl) {p t : Nat} (hp : p < 2 ^ 31) (ht : t ≤ 40) : p_loadBy I A R pl n ks (nI p) (nI t) = some (nI (loadT v p t)) := by
  have h7 := v_m h; have h6 := v_n h
  have z3 := hc.1.2.2.1
  have y3 := hc.2.2.2
  have hr := lp_run (fun k (s : Int32 × Int32) => p_loadBy_L5 I A R pl n ks (nI p) (nI t) k s.1 s.2) (fun i => (nI (sumN (ldtf v p t) i), nI i)) (v 7) (some (nI (loadT v p t), nI (v 7)))
    (fun k => by
      simp only [p_loadBy_L5, z3]
      rw [if_pos (nI_le (Nat.le_refl _) (by omega))]
      rfl)
    (fun k i hi => by
      have e5 : ldO (A 5) 8 (nI i) = _ := ldN rfl (by omega) (by decide) (y3 i (by omega)).1
      have q1 := (v_pr h hi).1
      have q2 := pnd_le h hi
      have q3 : pnd v i * t ≤ 40 * 40 := Nat.mul_le_mul q2 ht
      have c : (nI (v (25 + i)) = nI p) = _ := eqL p (by omega) hp
      have dv : divO (nI (pnd v i) * nI t) 10 = some (nI (pnd v i * t / 10)) := by
        unfold divO
        rw [if_neg (by decide), pk_mul]
        exact congrArg some (pk_div (d := 10) (by omega) (by decide) (by decide))
      simp only [p_loadBy_L5, z3, ob1, e5, c, pounds_p hc h hR hi, dv]
      rw [if_neg (nI_ge hi (by omega)), sumN, ← nI_add, nI_1]
      unfold ldtf
      by_cases hq : v (25 + i) = p
      · rw [if_pos hq, if_pos hq]
      · rw [if_neg hq, if_neg hq]
        rfl) NF (NFb (by omega))
  have hr : p_loadBy_L5 I A R pl n ks (nI p) (nI t) NF 0 0 = _ := hr
  simp only [p_loadBy, hr, ob2]
theorem load_p (hc : CV v I A n ks) (h : OKv v) (hR : R 1 = some pl) {p : Nat} (hp : p < 2 ^ 31) : p_load I A R pl n ks (nI p) = some (nI (load v p)) := by
  have e : p_loadBy I A R pl n ks (nI p) 10 = _ := loadBy_p hc h hR hp (t := 10) (by decide)
  simp only [p_load, e, ob1, loadT_10]
end VIEW
