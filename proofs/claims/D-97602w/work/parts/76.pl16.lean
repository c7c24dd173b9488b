/-! PLAIN LAW 16: keeps, the model's search -/
set_option maxRecDepth 100000
def nbF (left : Nat) : Nat → Nat → Nat
  | 0, j => j
  | e + 1, j => if left / 2 ^ j % 2 = 0 then nbF left e (j + 1) else j
def cb (left : Nat) : Nat → Nat → Nat
  | 0, _ => 0
  | e + 1, j => left / 2 ^ j % 2 + cb left e (j + 1)
theorem cb_p (left : Nat) : cb left 8 0 = popc left := by
  unfold popc
  simp only [cb, Nat.reducePow, Nat.reduceAdd, Nat.div_one]
  omega
def TT : Nat → Nat
  | 0 => 1
  | d + 1 => 1 + (d + 1) * (1 + TT d)
theorem TT_m : ∀ d, d ≤ 8 → TT d ≤ 219201 := by decide
theorem orb_s : ∀ x, x < 256 → ∀ j, j < 8 → x / 2 ^ j % 2 = 0 → nI x ||| nI (2 ^ j) = nI (x + 2 ^ j) := by decide +kernel
theorem sub_b1 : ∀ x, x < 256 → ∀ j, j < 8 → x / 2 ^ j % 2 = 1 → (x - 2 ^ j) / 2 ^ j % 2 = 0 := by decide +kernel
theorem sub_b2 : ∀ x, x < 256 → ∀ j, j < 8 → x / 2 ^ j % 2 = 1 → ∀ i, i < 8 → x / 2 ^ i % 2 = 0 → (x - 2 ^ j) / 2 ^ i % 2 = 0 := by decide +kernel
theorem srN_l (v : Nat → Nat) (d : Nat) (line : Nat → Nat) (k left place day t : Nat) (st : Nat × (Nat → Nat)) : srN v (d + 1) line k left place day t st = lpF (bdy v d line k left place day t) 8 0 st := by
  rw [srN_s]
  split
  · rename_i q
    exact (lpF_id _ _ _ _ (fun i _ _ => bdy_p v d line k left place day t i st q)).symm
  · rfl
section VIEW16
variable {v w u : Nat → Nat} {I I' : Nat → Int32} {A A' : Nat → Nat → Int32} {R : Nat → Option Nat} {G : Nat → Nat → Option Nat} {pl n : Nat} {ks : Nat → Nat}
theorem nb_m (a b c : Int32) {left : Nat} (hl : left < 256) : ∀ e j k, j + e = 8 → e < k → m_findOrder_L108 I A a b c (nI left) k (nI j) = some (nI (nbF left e j)) := by
  intro e
  induction e with
  | zero =>
    intro j k h1 h2
    obtain ⟨f, rfl⟩ : ∃ f, k = f + 1 := ⟨k - 1, by omega⟩
    obtain rfl : j = 8 := by omega
    rfl
  | succ e ih =>
    intro j k h1 h2
    obtain ⟨f, rfl⟩ : ∃ f, k = f + 1 := ⟨k - 1, by omega⟩
    have c0 : (nI (left / 2 ^ j % 2) = (0 : Int32)) = _ := z0 (a := left / 2 ^ j % 2) (by omega)
    simp only [m_findOrder_L108, has_m left hl j (by omega), o1, c0]
    rw [if_neg (show ¬ (8 : Int32) ≤ nI j from nI_ge (b := 8) (by omega) (by decide)), nbF]
    by_cases q : left / 2 ^ j % 2 = 0
    · rw [if_pos q, if_pos q, nI_1]
      exact ih (j + 1) f (by omega) (by omega)
    · rw [if_neg q, if_neg q]
theorem cp_m (a b c d : Int32) {N : Nat} (hN : N ≤ 8) : ∃ A1 y, m_findOrder_L82 (nI N) a b c d NF I A 0 = some (I, A1, y) ∧ (∀ i, i < N → A1 16 i = A 15 i) ∧ ∀ i, i ≠ 16 → A1 i = A i := by
  have hr := lp_rel (fun k (s : (Nat → Int32) × (Nat → Nat → Int32) × Int32) => m_findOrder_L82 (nI N) a b c d k s.1 s.2.1 s.2.2) (fun j s => s.1 = I ∧ s.2.2 = nI j ∧ (∀ i, i < j → s.2.1 16 i = A 15 i) ∧ ∀ i, i ≠ 16 → s.2.1 i = A i) N (fun s => s.1 = I ∧ (∀ i, i < N → s.2.1 16 i = A 15 i) ∧ ∀ i, i ≠ 16 → s.2.1 i = A i)
    (fun k s hs => by
      obtain ⟨J, B, x⟩ := s
      obtain ⟨rfl, rfl, h1, h2⟩ := hs
      refine ⟨(J, B, nI N), ?_, rfl, h1, h2⟩
      simp only [m_findOrder_L82]
      rw [if_pos (Int32.le_refl _)])
    (fun k j s hj hs => by
      obtain ⟨J, B, x⟩ := s
      obtain ⟨rfl, rfl, h1, h2⟩ := hs
      have h2 : ∀ i, i ≠ 16 → B i = A i := h2
      have e : ldO (B 15) 8 (nI j) = some (A 15 j) := ldN rfl (show j < 8 by omega) (by decide) (by rw [h2 15 (by decide)])
      have st : ∀ x : Int32, stO (B 16) 8 (nI j) x = _ := fun x => stN x rfl (show j < 8 by omega) (by decide)
      refine Or.inl ⟨(J, va_up B 16 (upd (B 16) j (A 15 j)), nI (j + 1)), ⟨rfl, rfl, fun i hi => ?_, fun i hi => (va_up_ne _ _ hi).trans (h2 i hi)⟩, ?_⟩
      · show upd (B 16) j _ i = _
        by_cases q : i = j
        · rw [q, upd_s]
        · rw [upd_n _ _ q]
          exact h1 i (by omega)
      · simp only [m_findOrder_L82, e, o1, st]
        rw [if_neg (nI_ge hj (by omega)), nI_1]) NF (I, A, 0) (NFb (by omega)) ⟨rfl, rfl, fun i hi => absurd hi (by omega), fun _ _ => rfl⟩
  obtain ⟨⟨J, B, y⟩, g1, rfl, g2, g3⟩ := hr
  exact ⟨B, y, g1, g2, g3⟩
def exL (k left : Nat) (line : Nat → Nat) : Int32 := if k = 0 then nI left else nI (left + 2 ^ line (k - 1))
def exN (k : Nat) (line : Nat → Nat) : Int32 := if k = 0 then 0 else nI (line (k - 1) + 1)
def exB (k : Nat) (line : Nat → Nat) : Int32 := if k = 0 then 0 else nI (2 ^ line (k - 1))
theorem pop_n {line : Nat → Nat} {k : Nat} (hk : k ≤ 8) (hA : ∀ i, i < k → A 15 i = nI (line i)) : (if 0 ≤ nI k + (-1) then (ob1 (ldO (A 15) 8 (nI k + (-1))) fun (x : Int32) => (some (x + 1) : Option Int32)) else some 0) = some (exN k line) := by
  unfold exN
  by_cases q : k = 0
  · rw [if_pos q, q, if_neg (show ¬ (0 : Int32) ≤ nI 0 + (-1) by decide)]
  · rw [if_neg q, sb1 (by omega), if_pos (show (0 : Int32) ≤ nI (k - 1) from nI_le (a := 0) (by omega) (by omega)), ldN rfl (show k - 1 < 8 by omega) (by decide) (hA (k - 1) (by omega)), o1, nI_1]
theorem pop_b {line : Nat → Nat} {k : Nat} (hk : k ≤ 8) (hA : ∀ i, i < k → A 15 i = nI (line i)) (hl : ∀ i, i < k → line i < 8) : (if 0 ≤ nI k + (-1) then (ob1 (ldO (A 15) 8 (nI k + (-1))) fun (x : Int32) => (some ((1 : Int32) <<< (x &&& 31)) : Option Int32)) else some 0) = some (exB k line) := by
  unfold exB
  by_cases q : k = 0
  · rw [if_pos q, q, if_neg (show ¬ (0 : Int32) ≤ nI 0 + (-1) by decide)]
  · rw [if_neg q, sb1 (by omega), if_pos (show (0 : Int32) ≤ nI (k - 1) from nI_le (a := 0) (by omega) (by omega)), ldN rfl (show k - 1 < 8 by omega) (by decide) (hA (k - 1) (by omega)), o1, shl_1 _ (by have := hl (k - 1) (by omega); omega)]
theorem pop_l {line : Nat → Nat} {k left : Nat} (hl : left < 256) (hb : k ≠ 0 → line (k - 1) < 8 ∧ left / 2 ^ line (k - 1) % 2 = 0) : nI left ||| exB k line = exL k left line := by
  unfold exB exL
  by_cases q : k = 0
  · rw [if_pos q, if_pos q, or_0]
  · rw [if_neg q, if_neg q]
    exact orb_s left hl _ (hb q).1 (hb q).2
/-- what is as it was -/
def PR (k : Nat) (A A1 : Nat → Nat → Int32) : Prop := (∀ i, i < k → A1 15 i = A 15 i) ∧ (∀ i, i ≤ k → A1 17 i = A 17 i ∧ A1 18 i = A 18 i ∧ A1 19 i = A 19 i) ∧ ∀ i, i < 15 ∨ 20 ≤ i → A1 i = A i
theorem PR.tr {k : Nat} {A B C : Nat → Nat → Int32} (h : PR k A B) (g : PR k B C) : PR k A C := ⟨fun i hi => (g.1 i hi).trans (h.1 i hi), fun i hi => ⟨(g.2.1 i hi).1.trans (h.2.1 i hi).1, (g.2.1 i hi).2.1.trans (h.2.1 i hi).2.1, (g.2.1 i hi).2.2.trans (h.2.1 i hi).2.2⟩, fun i hi => (g.2.2 i hi).trans (h.2.2 i hi)⟩
def MSt (v : Nat → Nat) (N k : Nat) (line : Nat → Nat) (place day t : Nat) (A : Nat → Nat → Int32) (st : Nat × (Nat → Nat)) : Prop := MW v (A 0) ∧ (∀ i, i < k → A 15 i = nI (line i)) ∧ A 17 k = nI day ∧ A 18 k = nI place ∧ A 19 k = nI t ∧ st.1 ≤ 20 ∧ (1 ≤ st.1 → ∀ i, i < N → A 16 i = nI (st.2 i))
theorem o1n {α δ : Type} (a : α) (f : α → Option δ) : ob1 (some a) f = f a := of_eq_true (eq_self (f a))
theorem o2n {α β δ : Type} (a : α) (b : β) (f : α → β → Option δ) : ob2 (some (a, b)) f = f a b := of_eq_true (eq_self (f a b))
theorem o3n {α β γ δ : Type} (a : α) (b : β) (c : γ) (f : α → β → γ → Option δ) : ob3 (some (a, b, c)) f = f a b c := of_eq_true (eq_self (f a b c))
theorem o6n {α β γ ε ζ η δ : Type} (a : α) (b : β) (c : γ) (d : ε) (e : ζ) (g : η) (f : α → β → γ → ε → ζ → η → Option δ) : ob6 (some (a, b, c, d, e, g)) f = f a b c d e g := of_eq_true (eq_self (f a b c d e g))
theorem nb0 (N k : Nat) (B : Nat → Nat → Int32) (a : Int32) : m_findOrder_L108 I B (nI N) a (nI k) (nI 0) NF 0 = some 8 := nb_m (I := I) (A := B) (nI N) a (nI k) (left := 0) (by decide) 8 0 NF rfl (NFb (by omega))
theorem cmt {t B : Nat} (hB : B ≤ 20) (ht : t ≤ 20) : (nI t ≤ mI B) = (t + 1 ≤ B) := by
  have := mI_lt (B := B) (x := t) (by omega) (by omega)
  refine propext ⟨fun z => ?_, fun z => ?_⟩
  · refine Nat.lt_of_not_le (fun y => ?_)
    rw [← this] at y
    exact Int32.lt_irrefl (Int32.lt_of_lt_of_le y z)
  · refine Int32.not_lt.mp (fun y => ?_)
    rw [this] at y
    omega
def NodeP (I : Nat → Int32) (v : Nat → Nat) (N d : Nat) : Prop := ∀ line k left place day t st A, left < 2 ^ v 7 → popc left = d → k + d = N → place ≤ 5 → day + 5 * d ≤ 5000 → t ≤ k → (∀ i, i < k → line i < 8 ∧ left / 2 ^ line i % 2 = 0) → MSt v N k line place day t A st → ∃ N1 A1, N1 ≤ TT d ∧ (∀ f, m_findOrder_L47 (nI N) (f + N1) I A (mI st.1) (nI k) (nI left) 0 = m_findOrder_L47 (nI N) f I A1 (mI (srN v d line k left place day t st).1) (nI k + (-1)) (exL k left line) (exN k line)) ∧ PR k A A1 ∧ (1 ≤ (srN v d line k left place day t st).1 → ∀ i, i < N → A1 16 i = nI ((srN v d line k left place day t st).2 i))
theorem node_0 (h : OKv v) (N : Nat) (hN : N ≤ 8) : NodeP I v N 0 := by
  have h7 := v_m h
  have p8 : 2 ^ v 7 ≤ 2 ^ 8 := Nat.pow_le_pow_right (by decide) h7
  intro line k left place day t st A hl hp hk hpl hd ht hb ms
  obtain ⟨m0, m1, m2, m3, m4, m5, m6⟩ := ms
  obtain rfl : left = 0 := popc_0 left (by omega) hp
  have kN : nI k = nI N := by rw [show k = N by omega]
  have e19 : ldO (A 19) 9 (nI k) = _ := ldN rfl (show k < 9 by omega) (by decide) m4
  have nz : ¬ nI k < 0 := ltz (by omega)
  have pl := pop_l (line := line) (k := k) (left := 0) (by decide) (fun z => hb (k - 1) (by omega))
  have cm : (nI t ≤ mI st.1) = (t + 1 ≤ st.1) := cmt m5 (by omega)
  have nb := nb0 (I := I) N k
  by_cases q : t + 1 ≤ st.1
  · have sr : srN v 0 line k 0 place day t st = st := if_pos q
    rw [sr]
    refine ⟨1, A, Nat.le_refl _, fun f => ?_, ⟨fun _ _ => rfl, fun _ _ => ⟨rfl, rfl, rfl⟩, fun _ _ => rfl⟩, m6⟩
    simp only [m_findOrder_L47, e19, o1n, cm, if_pos kN, nb, o3n, if_pos q]
    rw [if_neg nz, if_pos trivial, pop_n (by omega) m1, o1n, pop_b (by omega) m1 (fun i hi => (hb i hi).1), o1n, pl]
  · have sr : srN v 0 line k 0 place day t st = (t + 1, line) := if_neg q
    rw [sr]
    obtain ⟨A1, y, c1, c2, c3⟩ := cp_m (I := I) (A := A) (nI t) (nI k) (nI 0) 0 hN
    have pr : PR k A A1 := ⟨fun i _ => by rw [c3 15 (by decide)], fun i _ => by rw [c3 17 (by decide), c3 18 (by decide), c3 19 (by decide)]; exact ⟨rfl, rfl, rfl⟩, fun i hi => c3 i (by omega)⟩
    refine ⟨1, A1, Nat.le_refl _, fun f => ?_, pr, fun _ i hi => (c2 i hi).trans (m1 i (by omega))⟩
    have m1' : ∀ i, i < k → A1 15 i = nI (line i) := fun i hi => (pr.1 i hi).trans (m1 i hi)
    simp only [m_findOrder_L47, e19, o1n, cm, if_pos kN, c1, o3n, nb, if_neg q]
    rw [if_neg nz, if_pos trivial, pop_n (by omega) m1', o1n, pop_b (by omega) m1' (fun i hi => (hb i hi).1), o1n, pl, ← mI_s]
set_option maxHeartbeats 2000000 in
theorem node_s (h : OKv v) (N : Nat) (hN : N ≤ 8) (d : Nat) (ih : NodeP I v N d) : NodeP I v N (d + 1) := by
  have h7 := v_m h
  have p8 : 2 ^ v 7 ≤ 2 ^ 8 := Nat.pow_le_pow_right (by decide) h7
  intro line k left place day t st A hl hp hk hpl hd ht hb ms
  rw [srN_l]
  have nz : ¬ nI k < 0 := ltz (by omega)
  have kN : (nI k = nI N) = (k = N) := eqL N (by omega) (by omega)
  have kn : ¬ k = N := by omega
  have pl := pop_l (line := line) (k := k) (left := left) (by omega) (fun z => hb (k - 1) (by omega))
  have inner : ∀ e j st A, j + e = 8 → MSt v N k line place day t A st → ∃ N1 A1, 1 ≤ N1 ∧ N1 ≤ 1 + cb left e j * (1 + TT d) ∧ (∀ f, m_findOrder_L47 (nI N) (f + N1) I A (mI st.1) (nI k) (nI left) (nI j) = m_findOrder_L47 (nI N) f I A1 (mI (lpF (bdy v d line k left place day t) e j st).1) (nI k + (-1)) (exL k left line) (exN k line)) ∧ PR k A A1 ∧ (1 ≤ (lpF (bdy v d line k left place day t) e j st).1 → ∀ i, i < N → A1 16 i = nI ((lpF (bdy v d line k left place day t) e j st).2 i)) := by
    intro e
    induction e with
    | zero =>
      intro j st A hj ms
      obtain ⟨m0, m1, m2, m3, m4, m5, m6⟩ := ms
      obtain rfl : j = 8 := by omega
      refine ⟨1, A, Nat.le_refl _, by omega, fun f => ?_, ⟨fun _ _ => rfl, fun _ _ => ⟨rfl, rfl, rfl⟩, fun _ _ => rfl⟩, m6⟩
      have nb : ∀ a : Int32, m_findOrder_L108 I A (nI N) a (nI k) (nI left) NF (nI 8) = some (nI 8) := fun a => nb_m (I := I) (A := A) (nI N) a (nI k) (left := left) (by omega) 0 8 NF rfl (NFb (by omega))
      simp only [m_findOrder_L47, o1n, kN, nb, o3n, if_neg kn]
      rw [if_neg nz, if_pos (show nI 8 = 8 from rfl), pop_n (by omega) m1, o1n, pop_b (by omega) m1 (fun i hi => (hb i hi).1), o1n, pl]
      rfl
    | succ e ihe =>
      intro j st A hj ms
      have nb : ∀ a : Int32, m_findOrder_L108 I A (nI N) a (nI k) (nI left) NF (nI j) = some (nI (nbF left (e + 1) j)) := fun a => nb_m (I := I) (A := A) (nI N) a (nI k) (left := left) (by omega) (e + 1) j NF hj (NFb (by omega))
      by_cases b0 : left / 2 ^ j % 2 = 0
      · have hbd : bdy v d line k left place day t j st = st := if_pos b0
        rw [lpF_s, hbd]
        obtain ⟨N1, A1, g0, g1, g2, g3, g4⟩ := ihe (j + 1) st A (by omega) ms
        refine ⟨N1, A1, g0, ?_, fun f => ?_, g3, g4⟩
        · show N1 ≤ 1 + (left / 2 ^ j % 2 + cb left e (j + 1)) * (1 + TT d)
          rw [b0, Nat.zero_add]
          exact g1
        · rw [← g2 f]
          obtain ⟨M, rfl⟩ : ∃ M, N1 = M + 1 := ⟨N1 - 1, by omega⟩
          have nb2 : ∀ a : Int32, m_findOrder_L108 I A (nI N) a (nI k) (nI left) NF (nI (j + 1)) = some (nI (nbF left e (j + 1))) := fun a => nb_m (I := I) (A := A) (nI N) a (nI k) (left := left) (by omega) e (j + 1) NF (by omega) (NFb (by omega))
          have nbe : nbF left (e + 1) j = nbF left e (j + 1) := if_pos b0
          show m_findOrder_L47 (nI N) (f + M + 1) I A (mI st.1) (nI k) (nI left) (nI j) = m_findOrder_L47 (nI N) (f + M + 1) I A (mI st.1) (nI k) (nI left) (nI (j + 1))
          simp only [m_findOrder_L47, kN, if_neg kn, if_neg nz, o3n, nb, nb2, nbe]
      · have b1 : left / 2 ^ j % 2 = 1 := by omega
        have nbe : nbF left (e + 1) j = j := if_neg b0
        obtain ⟨m0, m1, m2, m3, m4, m5, m6⟩ := ms
        have e19 : ldO (A 19) 9 (nI k) = _ := ldN rfl (show k < 9 by omega) (by decide) m4
        have j8 : ¬ nI j = 8 := by
          rw [show (8 : Int32) = nI 8 from rfl, eqL 8 (by omega) (by decide)]
          omega
        have pr : (mI st.1 < nI t + nI N - nI k) = (st.1 ≤ t + (d + 1)) := by
          rw [nI_add, pk_sub (by omega), show t + N - k = t + (d + 1) by omega]
          exact mI_lt (by omega) (by omega)
        by_cases q : t + (d + 1) + 1 ≤ st.1
        · have id : lpF (bdy v d line k left place day t) (e + 1) j st = st := lpF_id _ _ _ _ (fun i _ _ => bdy_p v d line k left place day t i st q)
          rw [id]
          refine ⟨1, A, Nat.le_refl _, by omega, fun f => ?_, ⟨fun _ _ => rfl, fun _ _ => ⟨rfl, rfl, rfl⟩, fun _ _ => rfl⟩, m6⟩
          simp only [m_findOrder_L47, o1n, kN, nb, nbe, o3n, if_neg kn, e19, pr]
          rw [if_neg nz, if_neg j8, if_neg (by omega), pop_n (by omega) m1, o1n, pop_b (by omega) m1 (fun i hi => (hb i hi).1), o1n, pl]
        · have hbd : bdy v d line k left place day t j st = srN v d (setv line k j) (k + 1) (left - 2 ^ j) (v (57 + j)) (day + dist (v (57 + j)) place) (t + tm v j (day + dist (v (57 + j)) place)) st := if_neg b0
          rw [lpF_s, hbd]
          have pb := popc_b left (by omega) j (by omega) b1
          have j7 : j < v 7 := Nat.lt_of_not_le (fun z => by have := bit_hi hl z; omega)
          obtain ⟨-, -, -, pd, pa⟩ := v_pr h j7
          have dl := dist_le (a := v (57 + j)) (b := place) (c := 5) pa hpl
          have tl := tm_le v j (day + dist (v (57 + j)) place)
          have e57 : ldO (A 0) 2044 (57 + nI j) = _ := ldW m0 (57 + j) (nI_add 57 j) (by omega)
          have e49 : ldO (A 0) 2044 (49 + nI j) = _ := ldW m0 (49 + j) (nI_add 49 j) (by omega)
          have e17 : ldO (A 17) 9 (nI k) = _ := ldN rfl (show k < 9 by omega) (by decide) m2
          have e18 : ldO (A 18) 9 (nI k) = _ := ldN rfl (show k < 9 by omega) (by decide) m3
          have s15 : stO (A 15) 8 (nI k) (nI j) = _ := stN _ rfl (show k < 8 by omega) (by decide)
          have s17 : ∀ x : Int32, stO (A 17) 9 (nI (k + 1)) x = _ := fun x => stN x rfl (show k + 1 < 9 by omega) (by decide)
          have s18 : ∀ x : Int32, stO (A 18) 9 (nI (k + 1)) x = _ := fun x => stN x rfl (show k + 1 < 9 by omega) (by decide)
          have s19 : ∀ x : Int32, stO (A 19) 9 (nI (k + 1)) x = _ := fun x => stN x rfl (show k + 1 < 9 by omega) (by decide)
          have l17 : ∀ x : Int32, ldO (upd (A 17) (k + 1) x) 9 (nI (k + 1)) = some x := fun x => ldN rfl (show k + 1 < 9 by omega) (by decide) (upd_s _ _ _)
          have cd : (nI (v (49 + j)) < nI (day + dist (v (57 + j)) place)) = _ := ltL (by omega) (by omega)
          have tv : (if v (49 + j) < day + dist (v (57 + j)) place then (0 : Int32) else 1) = nI (tm v j (day + dist (v (57 + j)) place)) := by
            unfold tm
            split <;> rfl
          let B : Nat → Nat → Int32 := va_up (va_up (va_up (va_up A 15 (upd (A 15) k (nI j))) 17 (upd (A 17) (k + 1) (nI (day + dist (v (57 + j)) place)))) 18 (upd (A 18) (k + 1) (nI (v (57 + j))))) 19 (upd (A 19) (k + 1) (nI (t + tm v j (day + dist (v (57 + j)) place))))
          have push : ∀ g, m_findOrder_L47 (nI N) (g + 1) I A (mI st.1) (nI k) (nI left) (nI j) = m_findOrder_L47 (nI N) g I B (mI st.1) (nI (k + 1)) (nI (left - 2 ^ j)) 0 := fun g => by
            have w1 : ∀ f, va_up A 15 f 17 = A 17 := fun f => rfl
            have w2 : ∀ f, va_up A 15 f 0 = A 0 := fun f => rfl
            have w3 : ∀ f, va_up A 15 f 18 = A 18 := fun f => rfl
            have w4 : ∀ f g, va_up (va_up A 15 f) 17 g 0 = A 0 := fun f g => rfl
            have w5 : ∀ f g, va_up (va_up A 15 f) 17 g 18 = A 18 := fun f g => rfl
            have w6 : ∀ f g h, va_up (va_up (va_up A 15 f) 17 g) 18 h 19 = A 19 := fun f g h => rfl
            have w7 : ∀ f g h, va_up (va_up (va_up A 15 f) 17 g) 18 h 17 = g := fun f g h => rfl
            have w8 : ∀ f g h, va_up (va_up (va_up A 15 f) 17 g) 18 h 0 = A 0 := fun f g h => rfl
            simp only [m_findOrder_L47, o1n, kN, nb, nbe, o3n, if_neg kn, e19, pr]
            rw [if_neg nz, if_neg j8, if_pos (by omega)]
            simp only [s15, o1n, w1, w2, w3, w4, w5, w6, w7, w8, e17, e57, e18, pl_s (show v (57 + j) < 2 ^ 20 by omega) (show place < 2 ^ 20 by omega), nI_add, nI_1, s17, s18, e19, l17, e49, cd, ife, tv, s19, andn_b left (by omega) j (by omega) b1]
            rfl
          have fb : ∀ i, i < k + 1 → setv line k j i < 8 ∧ (left - 2 ^ j) / 2 ^ setv line k j i % 2 = 0 := fun i hi => by
            by_cases e : i = k
            · rw [e, setv_s]
              exact ⟨by omega, sub_b1 left (by omega) j (by omega) b1⟩
            · rw [setv_n _ _ e]
              obtain ⟨q1, q2⟩ := hb i (by omega)
              exact ⟨q1, sub_b2 left (by omega) j (by omega) b1 _ q1 q2⟩
          obtain ⟨N2, A2, c1, c2, c3, c4⟩ := ih (setv line k j) (k + 1) (left - 2 ^ j) (v (57 + j)) (day + dist (v (57 + j)) place) (t + tm v j (day + dist (v (57 + j)) place)) st B (sub_lt hl) (by omega) (by omega) pa (by omega) (by omega) fb ⟨m0, fun i hi => by
            show upd (A 15) k (nI j) i = nI (setv line k j i)
            by_cases e : i = k
            · rw [e, upd_s, setv_s]
            · rw [upd_n _ _ e, setv_n _ _ e]
              exact m1 i (by omega), upd_s _ _ _, upd_s _ _ _, upd_s _ _ _, m5, m6⟩
          have prB : PR k A A2 := by
            refine ⟨fun i hi => (c3.1 i (by omega)).trans (upd_n _ _ (by omega)), fun i hi => ⟨(c3.2.1 i (by omega)).1.trans (upd_n _ _ (by omega)), (c3.2.1 i (by omega)).2.1.trans (upd_n _ _ (by omega)), (c3.2.1 i (by omega)).2.2.trans (upd_n _ _ (by omega))⟩, fun i hi => ?_⟩
            rw [c3.2.2 i hi]
            show va_up (va_up (va_up (va_up A 15 _) 17 _) 18 _) 19 _ i = A i
            rw [va_up_ne _ _ (by omega), va_up_ne _ _ (by omega), va_up_ne _ _ (by omega), va_up_ne _ _ (by omega)]
          have sb := srN_b v d (setv line k j) (k + 1) (left - 2 ^ j) (v (57 + j)) (day + dist (v (57 + j)) place) (t + tm v j (day + dist (v (57 + j)) place)) st m5 (by omega)
          obtain ⟨N3, A3, d0, d1, d2, d3, d4⟩ := ihe (j + 1) _ A2 (by omega) ⟨by rw [prB.2.2 0 (by omega)]; exact m0, fun i hi => (prB.1 i hi).trans (m1 i hi), (prB.2.1 k (Nat.le_refl _)).1.trans m2, (prB.2.1 k (Nat.le_refl _)).2.1.trans m3, (prB.2.1 k (Nat.le_refl _)).2.2.trans m4, sb, c4⟩
          refine ⟨N3 + N2 + 1, A3, by omega, ?_, fun f => ?_, prB.tr d3, d4⟩
          · show N3 + N2 + 1 ≤ 1 + (left / 2 ^ j % 2 + cb left e (j + 1)) * (1 + TT d)
            rw [b1, Nat.add_mul, Nat.one_mul]
            omega
          · rw [show f + (N3 + N2 + 1) = f + N3 + N2 + 1 by omega, push, c2 (f + N3), ← d2 f]
            have x1 : nI (k + 1) + (-1) = nI k := by rw [sb1 (by omega)]; rfl
            have x2 : exL (k + 1) (left - 2 ^ j) (setv line k j) = nI left := by
              unfold exL
              rw [if_neg (by omega), Nat.add_sub_cancel, setv_s]
              have : 2 ^ j ≤ left := by
                refine Nat.le_of_not_lt (fun z => ?_)
                rw [Nat.div_eq_of_lt z] at b1
                omega
              rw [Nat.sub_add_cancel this]
            have x3 : exN (k + 1) (setv line k j) = nI (j + 1) := by
              unfold exN
              rw [if_neg (by omega), Nat.add_sub_cancel, setv_s]
            rw [x1, x2, x3]
  obtain ⟨N1, A1, g0, g1, g2, g3, g4⟩ := inner 8 0 st A rfl ms
  refine ⟨N1, A1, ?_, g2, g3, g4⟩
  rw [cb_p, hp] at g1
  exact g1
theorem node_m (h : OKv v) (N : Nat) (hN : N ≤ 8) : ∀ d, NodeP I v N d := by
  intro d
  induction d with
  | zero => exact node_0 h N hN
  | succ d ih => exact node_s h N hN d ih
end VIEW16
