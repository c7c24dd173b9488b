/-! PLAIN LAW 4: votes, ways, the heaviest laden -/
set_option maxRecDepth 100000
theorem o1 {α δ : Type} (a : α) (f : α → Option δ) : ob1 (some a) f = f a := rfl
theorem o2 {α β δ : Type} (a : α) (b : β) (f : α → β → Option δ) : ob2 (some (a, b)) f = f a b := rfl
theorem o3 {α β γ δ : Type} (a : α) (b : β) (c : γ) (f : α → β → γ → Option δ) : ob3 (some (a, b, c)) f = f a b c := rfl
theorem o4 {α β γ ε δ : Type} (a : α) (b : β) (c : γ) (d : ε) (f : α → β → γ → ε → Option δ) : ob4 (some (a, b, c, d)) f = f a b c d := rfl
theorem o5 {α β γ ε ζ δ : Type} (a : α) (b : β) (c : γ) (d : ε) (e : ζ) (f : α → β → γ → ε → ζ → Option δ) : ob5 (some (a, b, c, d, e)) f = f a b c d e := rfl
theorem o6 {α β γ ε ζ η δ : Type} (a : α) (b : β) (c : γ) (d : ε) (e : ζ) (g : η) (f : α → β → γ → ε → ζ → η → Option δ) : ob6 (some (a, b, c, d, e, g)) f = f a b c d e g := rfl
theorem ife {α : Type} {c : Prop} [Decidable c] (x y : α) : (if c then some x else some y) = some (if c then x else y) := by split <;> rfl
section VIEW4
variable {v : Nat → Nat} {I I' : Nat → Int32} {A A' : Nat → Nat → Int32} {R : Nat → Option Nat} {G : Nat → Nat → Option Nat} {pl n : Nat} {ks : Nat → Nat}
/-- what one has promised another -/
def prf (v : Nat → Nat) (c q : Nat) : Nat → Nat := fun m => if v (25 + m) = c ∧ v (33 + m) = q then pnd v m else 0
def prm (v : Nat → Nat) (c q : Nat) : Nat := sumN (prf v c q) (v 7)
theorem prm_le (h : OKv v) (c q : Nat) : prm v c q ≤ 320 := by
  have h1 := sumN_le (f := prf v c q) (b := 40) (v 7) (fun i hi => by
    unfold prf
    split
    · exact pnd_le h hi
    · omega)
  have h2 := v_m h
  have h3 : v 7 * 40 ≤ 8 * 40 := Nat.mul_le_mul_right 40 h2
  exact Nat.le_trans h1 h3
theorem promised_x (hc : CV v (sh 200 I') (sh 200 A') n ks) (hR : R 201 = some pl) (h : OKv v) {c q : Nat} (hcc : c < 2 ^ 31) (hq : q < 2 ^ 31) : x_promised I' A' R G pl n ks (nI c) (nI q) = some (nI (prm v c q)) := by
  have h7 := v_m h; have h6 := v_n h
  have z4 : I' 204 = nI (v 7) := hc.1.2.2.1
  have hr := lp_run (fun k (s : Int32 × Int32) => x_promised_L5 I' A' R G pl n ks (nI c) (nI q) k s.1 s.2) (fun i => (nI (sumN (prf v c q) i), nI i)) (v 7) (some (nI (prm v c q), nI (v 7)))
    (fun k => by
      simp only [x_promised_L5, z4]
      rw [if_pos (nI_le (Nat.le_refl _) (by omega))]
      rfl)
    (fun k i hi => by
      have e5 : ldO (A' 205) 8 (nI i) = _ := ldN rfl (show i < 8 by omega) (by decide) (hc.2.2.2 i (by omega)).1
      have e6 : ldO (A' 206) 8 (nI i) = _ := ldN rfl (show i < 8 by omega) (by decide) (hc.2.2.2 i (by omega)).2.1
      obtain ⟨q1, q2, -⟩ := v_pr h hi
      have c1 : (nI (v (25 + i)) = nI c) = _ := eqL c (by omega) hcc
      have c2 : (nI (v (33 + i)) = nI q) = _ := eqL q (by omega) hq
      simp only [x_promised_L5, z4, ob1, e5, e6, c1, c2, pounds_p (R := sh 200 R) hc h hR hi]
      rw [if_neg (nI_ge hi (by omega)), sumN, ← nI_add, nI_1]
      unfold prf
      by_cases a : v (25 + i) = c
      · rw [if_pos a]
        by_cases b : v (33 + i) = q
        · rw [if_pos b, if_pos ⟨a, b⟩]
        · rw [if_neg b, if_neg (fun z => b z.2)]
          rfl
      · rw [if_neg a, if_neg (fun z => a z.1)]
        rfl) NF (NFb (by omega))
  have hr : x_promised_L5 I' A' R G pl n ks (nI c) (nI q) NF 0 0 = _ := hr
  simp only [x_promised, hr, ob2]
theorem cand_x (hc : CV v (sh 200 I') (sh 200 A') n ks) (hR : R 201 = some pl) (h : OKv v) {p : Nat} (hp : p < v 6) : x_isCandidate I' A' R G pl n ks (nI p) = some (if v (10 + p) = 2 then 1 else 0) := by
  have h6 := v_n h
  have hn := hc.1.1
  have eg : pgO n (nI p) = some p := pgN rfl (by omega) (by omega)
  have ek : ks p = v (10 + p) := hc.1.2.1 p (by omega)
  have hk := v_k h hp
  simp only [x_isCandidate, grdO hR, eg, ek, ob1]
  rcases (show v (10 + p) = 1 ∨ v (10 + p) = 2 ∨ v (10 + p) = 3 ∨ v (10 + p) = 4 ∨ v (10 + p) = 5 by omega) with e | e | e | e | e <;> rw [e] <;> rfl
/-- the best so far, and how much -/
def itf (v : Nat → Nat) (q i : Nat) : Nat := if v (10 + i) = 2 then prm v i q else 0
theorem itf_le (h : OKv v) (q i : Nat) : itf v q i ≤ 320 := by
  unfold itf
  split
  · exact prm_le h i q
  · omega
def vot (v : Nat → Nat) (q : Nat) : Nat → Int32 × Nat
  | 0 => (-1000000, 0)
  | i + 1 => if itf v q i ≤ (vot v q i).2 then vot v q i else (nI i, itf v q i)
theorem vot_s (q i : Nat) : vot v q (i + 1) = if itf v q i ≤ (vot v q i).2 then vot v q i else (nI i, itf v q i) := rfl
theorem vot_le (h : OKv v) (q : Nat) : ∀ i, (vot v q i).2 ≤ 320 := by
  intro i
  induction i with
  | zero => exact Nat.zero_le _
  | succ i ih =>
    rw [vot_s]
    split
    · exact ih
    · exact itf_le h q i
theorem voteOf_x (hc : CV v (sh 200 I') (sh 200 A') n ks) (hR : R 201 = some pl) (h : OKv v) {q : Nat} (hq : q < 2 ^ 31) : x_voteOf I' A' R G pl n ks (nI q) = some (vot v q (v 6)).1 := by
  have h6 := v_n h
  have e6 := many_p (R := sh 200 R) hc hR
  have hr := lp_run (fun k (s : Int32 × Int32 × Int32) => x_voteOf_L9 I' A' R G pl n ks (nI q) k s.1 s.2.1 s.2.2) (fun i => ((vot v q i).1, nI (vot v q i).2, nI i)) (v 6) (some ((vot v q (v 6)).1, nI (vot v q (v 6)).2, nI (v 6)))
    (fun k => by
      simp only [x_voteOf_L9, e6, o1]
      rw [if_pos (nI_le (Nat.le_refl _) (by omega))])
    (fun k i hi => by
      have l1 := vot_le h q i
      have l2 := itf_le h q i
      have hits : (if (if v (10 + i) = 2 then (1 : Int32) else 0) = 0 then (0 : Int32) else nI (prm v i q)) = nI (itf v q i) := by
        unfold itf
        by_cases a : v (10 + i) = 2
        · simp only [if_pos a, n10, if_false]
        · simp only [if_neg a, n00, if_true]
          rfl
      have c : (nI (itf v q i) ≤ nI (vot v q i).2) = _ := leL (by omega) (by omega)
      have c2 : (nI (vot v q i).2 < nI (itf v q i)) = _ := ltL (by omega) (by omega)
      simp only [x_voteOf_L9, e6, o1, cand_x hc hR h hi, promised_x hc hR h (show i < 2 ^ 31 by omega) hq, ife, hits, c, mxI, c2]
      rw [if_neg (nI_ge hi (by omega)), nI_1, vot_s]
      by_cases b : itf v q i ≤ (vot v q i).2
      · rw [if_pos b, if_pos b, if_neg (by omega)]
      · rw [if_neg b, if_neg b, if_pos (by omega)]) NF (NFb (by omega))
  have hr : x_voteOf_L9 I' A' R G pl n ks (nI q) NF (-1000000) 0 0 = _ := hr
  simp only [x_voteOf, hr, o3]
theorem voteOf_m (hw : MW v (A 0)) (h : OKv v) {q : Nat} (hq : q < v 6) : m_voteOf I A (nI q) = some (if v (10 + q) = 2 then -1000000 else (vot v q (v 6)).1) := by
  have h6 := v_n h; have h7 := v_m h
  have e6 : ldO (A 0) 2044 6 = _ := ldW hw 6 rfl (by decide)
  have e7 : ldO (A 0) 2044 7 = _ := ldW hw 7 rfl (by decide)
  have e10 : ldO (A 0) 2044 (10 + nI q) = _ := ldW hw (10 + q) (nI_add 10 q) (by omega)
  have hk := v_k h hq
  have ck : (nI (v (10 + q)) = (2 : Int32)) = _ := eqL 2 (by omega) (by decide)
  by_cases b : v (10 + q) = 2
  · rw [if_pos b]
    have hk0 : ∀ k, m_voteOf_L8 I A (nI q) (k + 1) (-1000000) 0 0 = some (-1000000, 0, 0) := fun k => by
      simp only [m_voteOf_L8, e6, o1, e10, ck]
      rw [if_neg (show ¬ nI (v 6) ≤ 0 from nI_ge (a := 0) (by omega) (by omega)), if_pos b]
    have hr : m_voteOf_L8 I A (nI q) NF (-1000000) 0 0 = some (-1000000, 0, 0) := hk0 999999
    simp only [m_voteOf, hr, o3]
  · rw [if_neg b]
    have inner : ∀ (x2 x3 : Int32) (c : Nat), c < v 6 → m_voteOf_L39 I A (nI q) x2 x3 (nI c) NF 0 0 = some (nI (itf v q c), nI (v 7)) := by
      intro x2 x3 c hcv
      have e10c : ldO (A 0) 2044 (10 + nI c) = _ := ldW hw (10 + c) (nI_add 10 c) (by omega)
      have hkc := v_k h hcv
      have ckc : (nI (v (10 + c)) = (2 : Int32)) = _ := eqL 2 (by omega) (by decide)
      have key := lp_run (fun k (s : Int32 × Int32) => m_voteOf_L39 I A (nI q) x2 x3 (nI c) k s.1 s.2) (fun i => (nI (if v (10 + c) = 2 then sumN (prf v c q) i else 0), nI i)) (v 7) (some (nI (if v (10 + c) = 2 then prm v c q else 0), nI (v 7)))
        (fun k => by
          simp only [m_voteOf_L39, e7, ob1]
          rw [if_pos (nI_le (Nat.le_refl _) (by omega))]
          rfl)
        (fun k i hi => by
          have e25 : ldO (A 0) 2044 (25 + nI i) = _ := ldW hw (25 + i) (nI_add 25 i) (by omega)
          have e33 : ldO (A 0) 2044 (33 + nI i) = _ := ldW hw (33 + i) (nI_add 33 i) (by omega)
          obtain ⟨q1, q2, -⟩ := v_pr h hi
          have c1 : (nI (v (25 + i)) = nI c) = _ := eqL c (by omega) (by omega)
          have c2 : (nI (v (33 + i)) = nI q) = _ := eqL q (by omega) (by omega)
          simp only [m_voteOf_L39, e7, o1, e10c, ckc, e25, e33, c1, c2, pounds_m hw h hi]
          rw [if_neg (nI_ge hi (by omega)), nI_1]
          by_cases z : v (10 + c) = 2
          · simp only [if_pos z, sumN, ← nI_add, prf]
            by_cases a : v (25 + i) = c
            · by_cases b : v (33 + i) = q
              · simp only [a, b, if_true, o1, and_self]
              · simp only [a, b, if_true, if_false, o1, and_false]
                rfl
            · simp only [a, if_false, o1, false_and]
              rfl
          · simp only [if_neg z, o1]
            rfl) NF (NFb (by omega))
      have e0 : (if v (10 + c) = 2 then sumN (prf v c q) 0 else 0) = 0 := by split <;> rfl
      rw [e0] at key
      exact key
    have hr := lp_run (fun k (s : Int32 × Int32 × Int32) => m_voteOf_L8 I A (nI q) k s.1 s.2.1 s.2.2) (fun i => ((vot v q i).1, nI (vot v q i).2, nI i)) (v 6) (some ((vot v q (v 6)).1, nI (vot v q (v 6)).2, nI (v 6)))
      (fun k => by
        simp only [m_voteOf_L8, e6, o1]
        rw [if_pos (nI_le (Nat.le_refl _) (by omega))])
      (fun k i hi => by
        have l1 := vot_le h q i
        have l3 := itf_le h q i
        have c : (nI (itf v q i) ≤ nI (vot v q i).2) = _ := leL (by omega) (by omega)
        simp only [m_voteOf_L8, e6, o1, e10, ck, if_neg b, inner _ _ i hi, o2, ife, c]
        rw [if_neg (nI_ge hi (by omega)), nI_1, vot_s]
        by_cases d : itf v q i ≤ (vot v q i).2
        · rw [if_pos d, if_pos d, if_pos d]
        · rw [if_neg d, if_neg d, if_neg d]) NF (NFb (by omega))
    have hr : m_voteOf_L8 I A (nI q) NF (-1000000) 0 0 = _ := hr
    simp only [m_voteOf, hr, o3]
/-- how many vote for one -/
def vtf (v : Nat → Nat) (c : Nat) : Nat → Nat := fun p => if v (10 + p) ≠ 2 ∧ (vot v p (v 6)).1 = nI c then 1 else 0
def vts (v : Nat → Nat) (c : Nat) : Nat := sumN (vtf v c) (v 6)
theorem vts_le (c : Nat) : vts v c ≤ v 6 := by
  have := sumN_le (f := vtf v c) (b := 1) (v 6) (fun i _ => by unfold vtf; split <;> omega)
  rw [Nat.mul_one] at this
  exact this
theorem votesFor_x (hc : CV v (sh 200 I') (sh 200 A') n ks) (hR : R 201 = some pl) (h : OKv v) (c : Nat) : x_votesFor I' A' R G pl n ks (nI c) = some (nI (vts v c)) := by
  have h6 := v_n h
  have e6 := many_p (R := sh 200 R) hc hR
  have hr := lp_run (fun k (s : Int32 × Int32) => x_votesFor_L4 I' A' R G pl n ks (nI c) k s.1 s.2) (fun i => (nI (sumN (vtf v c) i), nI i)) (v 6) (some (nI (vts v c), nI (v 6)))
    (fun k => by
      simp only [x_votesFor_L4, e6, ob1]
      rw [if_pos (nI_le (Nat.le_refl _) (by omega))]
      rfl)
    (fun k i hi => by
      simp only [x_votesFor_L4, e6, o1, cand_x hc hR h hi, voteOf_x hc hR h (show i < 2 ^ 31 by omega)]
      rw [if_neg (nI_ge hi (by omega)), nI_1, sumN, ← nI_add (sumN (vtf v c) i)]
      unfold vtf
      by_cases a : v (10 + i) = 2
      · simp only [if_pos a, n10, if_false, o1]
        rw [if_neg (fun z => z.1 a)]
        rfl
      · simp only [if_neg a, n00, if_true]
        by_cases b : (vot v i (v 6)).1 = nI c
        · rw [if_pos b, if_pos ⟨a, b⟩, o1]
          rfl
        · rw [if_neg b, if_neg (fun z => b z.2), o1]
          rfl) NF (NFb (by omega))
  have hr : x_votesFor_L4 I' A' R G pl n ks (nI c) NF 0 0 = _ := hr
  simp only [x_votesFor, hr, ob2]
theorem votesFor_m (hw : MW v (A 0)) (h : OKv v) {c : Nat} (hcc : c < 2 ^ 30) : m_votesFor I A (nI c) = some (nI (vts v c)) := by
  have h6 := v_n h
  have e6 : ldO (A 0) 2044 6 = _ := ldW hw 6 rfl (by decide)
  have hne : ¬ (-1000000 : Int32) = nI c := by
    intro e
    have := congrArg Int32.toInt e
    rw [nI_toInt (by omega), show (-1000000 : Int32).toInt = -1000000 from rfl] at this
    omega
  have hr := lp_run (fun k (s : Int32 × Int32) => m_votesFor_L4 I A (nI c) k s.1 s.2) (fun i => (nI (sumN (vtf v c) i), nI i)) (v 6) (some (nI (vts v c), nI (v 6)))
    (fun k => by
      simp only [m_votesFor_L4, e6, ob1]
      rw [if_pos (nI_le (Nat.le_refl _) (by omega))]
      rfl)
    (fun k i hi => by
      simp only [m_votesFor_L4, e6, o1, voteOf_m hw h hi]
      rw [if_neg (nI_ge hi (by omega)), nI_1, sumN, ← nI_add (sumN (vtf v c) i)]
      unfold vtf
      by_cases a : v (10 + i) = 2
      · rw [if_pos a, if_neg hne, if_neg (fun z => z.1 a), o1]
        rfl
      · rw [if_neg a]
        by_cases b : (vot v i (v 6)).1 = nI c
        · rw [if_pos b, if_pos ⟨a, b⟩, o1]
          rfl
        · rw [if_neg b, if_neg (fun z => b z.2), o1]
          rfl) NF (NFb (by omega))
  have hr : m_votesFor_L4 I A (nI c) NF 0 0 = _ := hr
  simp only [m_votesFor, hr, ob2]
theorem eq_votes (hw : MW v (A 0)) (h : OKv v) (hc : CV v (sh 200 I') (sh 200 A') n ks) (hR : R 201 = some pl) (a : Int32) : ∃ r, x_votes I' A' R G pl n ks a = some r ∧ m_votes I A a = some r := by
  have h6 := v_n h
  rcases person_or (I := I) (A := A) (R := R) (G := G) (pl := pl) hw h a with ⟨e1, e2⟩ | ⟨p, hp, rfl, e1, e2⟩
  · exact ⟨_, by simp only [x_votes, e2 _ _ _ _ hc hR, ob1, n00, if_true]; rfl, by simp only [m_votes, e1, ob1, n00, if_true]⟩
  · have e2 := e2 _ _ _ _ hc hR
    have e10 : ldO (A 0) 2044 (10 + nI p) = _ := ldW hw (10 + p) (nI_add 10 p) (by omega)
    have hk := v_k h hp
    have ck : (nI (v (10 + p)) = (2 : Int32)) = _ := eqL 2 (by omega) (by decide)
    simp only [x_votes, m_votes, e1, e2, ob1, n10, if_false, cand_x hc hR h hp, e10, ck, votesFor_x hc hR h p, votesFor_m hw h (show p < 2 ^ 30 by omega)]
    by_cases b : v (10 + p) = 2
    · simp only [if_pos b, n10, if_false]
      exact ⟨_, rfl, rfl⟩
    · simp only [if_neg b, n00, if_true]
      exact ⟨_, rfl, rfl⟩
/-- who wins -/
def win (v : Nat → Nat) : Nat → Option Nat
  | 0 => none
  | i + 1 => if v (10 + i) = 2 ∧ crs v i = false then (match win v i with | none => some i | some b => if vts v i ≤ vts v b then some b else some i) else win v i
theorem win_s (i : Nat) : win v (i + 1) = if v (10 + i) = 2 ∧ crs v i = false then (match win v i with | none => some i | some b => if vts v i ≤ vts v b then some b else some i) else win v i := rfl
def wI (o : Option Nat) : Int32 := match o with | none => -1000000 | some p => nI p
def wM (v : Nat → Nat) (o : Option Nat) : Int32 := match o with | none => -1 | some p => nI (vts v p)
theorem win_lt : ∀ i b, win v i = some b → b < i := by
  intro i
  induction i with
  | zero => intro b h; cases h
  | succ i ih =>
    intro b h
    unfold win at h
    split at h
    · split at h
      · cases h; omega
      · rename_i b2 hb2
        split at h
        · cases h
          have := ih _ hb2
          omega
        · cases h; omega
    · have := ih b h
      omega
theorem eq_wins (hw : MW v (A 0)) (h : OKv v) (hc : CV v (sh 200 I') (sh 200 A') n ks) (hR : R 201 = some pl) : ∃ r, x_wins I' A' R G pl n ks = some r ∧ m_wins I A = some r := by
  have h6 := v_n h
  have e1 := none_m (I := I) hw h
  have e2 := parish_x (G := G) hc hR h
  by_cases c : v 6 = 0
  · rw [if_pos c] at e1 e2
    exact ⟨_, by simp only [x_wins, e2, ob1, n00, if_true]; rfl, by simp only [m_wins, e1, ob1, n10, if_false]⟩
  · rw [if_neg c] at e1 e2
    have e6 := many_p (R := sh 200 R) hc hR
    have em6 : ldO (A 0) 2044 6 = _ := ldW hw 6 rfl (by decide)
    have hl := msk_lt (crs v) (v 6)
    have hl2 : 2 ^ v 6 ≤ 2 ^ 5 := Nat.pow_le_pow_right (by decide) h6
    have nne : ∀ b : Nat, b < 5 → ¬ nI b = (-1000000 : Int32) := by decide +kernel
    have hx := lp_run (fun k (s : Int32 × Int32) => x_wins_L16 I' A' R G pl n ks k s.1 s.2) (fun i => (wI (win v i), nI i)) (v 6) (some (wI (win v (v 6)), nI (v 6)))
      (fun k => by
        simp only [x_wins_L16, e6, o1]
        rw [if_pos (nI_le (Nat.le_refl _) (by omega))])
      (fun k i hi => by
        have hb : x_has (nI (msk (crs v) (v 6))) (nI i) = some (if crs v i = true then 1 else 0) := by
          rw [has_x _ (by omega) i (by omega), msk_b _ _ hi]
          cases crs v i <;> rfl
        simp only [x_wins_L16, e6, o1, cand_x hc hR h hi, crushed_p (R := sh 200 R) hc h hR, hb]
        rw [if_neg (nI_ge hi (by omega)), nI_1, win_s]
        by_cases a : v (10 + i) = 2
        · simp only [if_pos a, n10, if_false]
          cases hcr : crs v i with
          | true => simp only [if_true, n10, if_false, o1, Bool.true_eq_false, and_false]
          | false =>
            simp only [Bool.false_eq_true, if_false, n00, if_true, a, and_self]
            cases hwn : win v i with
            | none => simp only [wI, if_true, o1]
            | some b =>
              have hbl := win_lt i b hwn
              have l1 := vts_le (v := v) i
              have l2 := vts_le (v := v) b
              have cc : (nI (vts v i) ≤ nI (vts v b)) = _ := leL (by omega) (by omega)
              simp only [wI, votesFor_x hc hR h, cc, if_neg (nne b (by omega)), o1, ife]
              by_cases d : vts v i ≤ vts v b
              · simp only [if_pos d]
              · simp only [if_neg d]
        · simp only [if_neg a, n00, if_true, o1, a, false_and, if_false]) NF (NFb (by omega))
    have hm := lp_run (fun k (s : Int32 × Int32 × Int32) => m_wins_L17 I A k s.1 s.2.1 s.2.2) (fun i => (wI (win v i), wM v (win v i), nI i)) (v 6) (some (wI (win v (v 6)), wM v (win v (v 6)), nI (v 6)))
      (fun k => by
        simp only [m_wins_L17, em6, o1]
        rw [if_pos (nI_le (Nat.le_refl _) (by omega))])
      (fun k i hi => by
        have e10 : ldO (A 0) 2044 (10 + nI i) = _ := ldW hw (10 + i) (nI_add 10 i) (by omega)
        have hk := v_k h hi
        have ck : (nI (v (10 + i)) = (2 : Int32)) = _ := eqL 2 (by omega) (by decide)
        have neg1 : ∀ x : Nat, x ≤ 5 → (-1 : Int32) ≤ nI x ∧ ¬ nI x ≤ (-1 : Int32) := by decide +kernel
        have skip : (-1 : Int32) ≤ wM v (win v i) := by
          cases hwn : win v i with
          | none => exact Int32.le_refl _
          | some b => exact (neg1 _ (Nat.le_trans (vts_le b) h6)).1
        simp only [m_wins_L17, em6, o1, e10, ck, crushed_m hw h (show i < 5 by omega), votesFor_m hw h (show i < 2 ^ 30 by omega)]
        rw [if_neg (nI_ge hi (by omega)), nI_1, win_s]
        by_cases a : v (10 + i) = 2
        · simp only [if_pos a]
          cases hcr : crs v i with
          | true => simp only [if_true, n10, if_false, o1, if_pos skip, Bool.true_eq_false, and_false]
          | false =>
            simp only [Bool.false_eq_true, if_false, n00, if_true, a, and_self, o1]
            cases hwn : win v i with
            | none =>
              have ng : ¬ nI (vts v i) ≤ -1 := (neg1 (vts v i) (Nat.le_trans (vts_le (v := v) i) h6)).2
              have ng2 : ¬ nI (vts v i) ≤ wM v none := ng
              simp only [if_neg ng2, o1]
              rfl
            | some b =>
              have l1 := vts_le (v := v) i
              have l2 := vts_le (v := v) b
              have cc : (nI (vts v i) ≤ nI (vts v b)) = _ := leL (by omega) (by omega)
              simp only [wI, wM, cc]
              by_cases d : vts v i ≤ vts v b
              · simp only [if_pos d, o1]
              · simp only [if_neg d, o1]
        · simp only [if_neg a, o1, if_pos skip, a, false_and, if_false]) NF (NFb (by omega))
    have hx : x_wins_L16 I' A' R G pl n ks NF (-1000000) 0 = _ := hx
    have hm : m_wins_L17 I A NF (-1000000) (-1) 0 = _ := hm
    exact ⟨_, by simp only [x_wins, e2, ob1, n10, if_false, hx, ob2]; rfl, by simp only [m_wins, e1, ob1, n00, if_true, hm, ob3]⟩
end VIEW4
