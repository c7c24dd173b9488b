/-! PLAIN LAW 13: crossings, the sets -/
set_option maxRecDepth 100000
def sbm (s a : Nat) : Bool := a &&& s == a
def low (s : Nat) : Nat := if s % 2 = 1 then 0 else if s / 2 % 2 = 1 then 1 else if s / 4 % 2 = 1 then 2 else if s / 8 % 2 = 1 then 3 else 4
def hasB (a k : Nat) : Bool := a / 2 ^ k % 2 == 1
theorem sb_le : ∀ s, s < 32 → ∀ a, a < 32 → sbm s a = true → a ≤ s := by decide +kernel
theorem sb_D1 : ∀ s, s < 32 → ∀ a, a < 32 → (sbm s a && decide (0 < a) && !(hasB a (low s))) = true → 0 < s - a ∧ low (s - a) = low s := by decide +kernel
theorem sb_D2 : ∀ s, s < 32 → ∀ a, a < 32 → ∀ b, b < 32 → (sbm s a && sbm (s - a) b) = true → (sbm s b && sbm (s - b) a) = true ∧ s - b - a = s - a - b := by decide +kernel
theorem sb_self : ∀ s, s < 32 → sbm s s = true := by decide +kernel
theorem sb_nx : ∀ s, s < 32 → ∀ t, t < 32 → (decide (0 < t) && sbm s t) = true → sbm s ((t - 1) &&& s) = true ∧ (t - 1) &&& s < t ∧ ∀ u, u < t → (decide ((t - 1) &&& s < u) && sbm s u) = false := by decide +kernel
/-- the least of some; none: there is none -/
def omin (x y : Option Nat) : Option Nat := match x, y with
  | none, y => y
  | some a, none => some a
  | some a, some b => if a ≤ b then some a else some b
def Lst (S : Nat → Prop) (f : Nat → Option Nat) (r : Option Nat) : Prop := (∀ a k, S a → f a = some k → ∃ j, r = some j ∧ j ≤ k) ∧ ∀ j, r = some j → ∃ a, S a ∧ f a = some j
theorem Lst.step {S T : Nat → Prop} {f : Nat → Option Nat} {r : Option Nat} (h : Lst S f r) (a : Nat) (hT : ∀ b k, f b = some k → (T b ↔ S b ∨ b = a)) : Lst T f (omin r (f a)) := by
  obtain ⟨h1, h2⟩ := h
  constructor
  · intro b k hb hf
    rcases (hT b k hf).mp hb with q | rfl
    · obtain ⟨j, rfl, hj⟩ := h1 b k q hf
      cases e : f a with
      | none => exact ⟨j, rfl, hj⟩
      | some x =>
        show ∃ j', (if j ≤ x then some j else some x) = some j' ∧ j' ≤ k
        by_cases c : j ≤ x
        · rw [if_pos c]; exact ⟨j, rfl, hj⟩
        · rw [if_neg c]; exact ⟨x, rfl, by omega⟩
    · rw [hf]
      cases r with
      | none => exact ⟨k, rfl, Nat.le_refl _⟩
      | some j =>
        show ∃ j', (if j ≤ k then some j else some k) = some j' ∧ j' ≤ k
        by_cases c : j ≤ k
        · rw [if_pos c]; exact ⟨j, rfl, c⟩
        · rw [if_neg c]; exact ⟨k, rfl, Nat.le_refl _⟩
  · intro j hj
    cases e : f a with
    | none =>
      rw [e] at hj
      have hr : r = some j := by
        cases r with
        | none => cases hj
        | some x => exact hj
      obtain ⟨b, hb, hf⟩ := h2 j hr
      exact ⟨b, (hT b j hf).mpr (Or.inl hb), hf⟩
    | some x =>
      rw [e] at hj
      cases r with
      | none =>
        have hj : x = j := Option.some.inj hj
        subst hj
        exact ⟨a, (hT a x e).mpr (Or.inr rfl), e⟩
      | some y =>
        have hj : (if y ≤ x then some y else some x) = some j := hj
        by_cases c : y ≤ x
        · rw [if_pos c] at hj
          have hj : y = j := Option.some.inj hj
          subst hj
          obtain ⟨b, hb, hf⟩ := h2 y rfl
          exact ⟨b, (hT b y hf).mpr (Or.inl hb), hf⟩
        · rw [if_neg c] at hj
          have hj : x = j := Option.some.inj hj
          subst hj
          exact ⟨a, (hT a x e).mpr (Or.inr rfl), e⟩
theorem Lst.skip {S T : Nat → Prop} {f : Nat → Option Nat} {r : Option Nat} (h : Lst S f r) (hT : ∀ b k, f b = some k → (T b ↔ S b)) : Lst T f r :=
  ⟨fun a k ha hf => h.1 a k ((hT a k hf).mp ha) hf, fun j hj => by
    obtain ⟨a, ha, hf⟩ := h.2 j hj
    exact ⟨a, (hT a j hf).mpr ha, hf⟩⟩
theorem Lst.uniq {S : Nat → Prop} {f : Nat → Option Nat} {r q : Option Nat} (h : Lst S f r) (g : Lst S f q) : r = q := by
  cases r with
  | none =>
    cases q with
    | none => rfl
    | some j =>
      obtain ⟨a, ha, hf⟩ := g.2 j rfl
      obtain ⟨i, hi, -⟩ := h.1 a j ha hf
      cases hi
  | some i =>
    obtain ⟨a, ha, hf⟩ := h.2 i rfl
    obtain ⟨j, rfl, hj⟩ := g.1 a i ha hf
    obtain ⟨b, hb, hg⟩ := g.2 j rfl
    obtain ⟨k, hk, hk2⟩ := h.1 b j hb hg
    cases hk
    rw [show i = j by omega]
section CROSS
variable (F : Nat → Bool)
def fC (C : Nat → Option Nat) (s a : Nat) : Option Nat := if sbm s a && F a then (C (s - a)).map (· + 1) else none
def fX (C : Nat → Option Nat) (s a : Nat) : Option Nat := if hasB a (low s) && (sbm s a && F a) then (C (s - a)).map (· + 1) else none
def mnU (f : Nat → Option Nat) : Nat → Option Nat
  | 0 => none
  | t + 1 => omin (mnU f t) (f (t + 1))
theorem mnU_l (f : Nat → Option Nat) : ∀ t, Lst (fun a => 1 ≤ a ∧ a ≤ t) f (mnU f t) := by
  intro t
  induction t with
  | zero => exact ⟨fun a k h _ => absurd h (by omega), fun j h => by cases h⟩
  | succ t ih => exact ih.step (t + 1) (fun b k _ => by constructor <;> intro h <;> omega)
def tbl : Nat → Nat → Option Nat
  | 0 => fun i => if i = 0 then some 0 else none
  | s + 1 => fun i => if i = s + 1 then mnU (fC F (tbl s) (s + 1)) (s + 1) else tbl s i
def Cv (s : Nat) : Option Nat := tbl F s s
theorem tbl_s (s i : Nat) : tbl F (s + 1) i = if i = s + 1 then mnU (fC F (tbl F s) (s + 1)) (s + 1) else tbl F s i := rfl
theorem tbl_c : ∀ s i, i ≤ s → tbl F s i = Cv F i := by
  intro s
  induction s with
  | zero => intro i hi; obtain rfl : i = 0 := by omega
            rfl
  | succ s ih =>
    intro i hi
    by_cases e : i = s + 1
    · rw [e]; rfl
    · rw [tbl_s, if_neg e]
      exact ih i (by omega)
theorem mnU_congr {f g : Nat → Option Nat} : ∀ t, (∀ a, 1 ≤ a → a ≤ t → f a = g a) → mnU f t = mnU g t := by
  intro t
  induction t with
  | zero => intro _; rfl
  | succ t ih =>
    intro h
    show omin (mnU f t) (f (t + 1)) = omin (mnU g t) (g (t + 1))
    rw [ih (fun a h1 h2 => h a h1 (by omega)), h (t + 1) (by omega) (Nat.le_refl _)]
theorem Cv_s (s : Nat) : Cv F (s + 1) = mnU (fC F (Cv F) (s + 1)) (s + 1) := by
  have : Cv F (s + 1) = mnU (fC F (tbl F s) (s + 1)) (s + 1) := by
    show tbl F (s + 1) (s + 1) = _
    rw [tbl_s, if_pos rfl]
  rw [this]
  refine mnU_congr (s + 1) (fun a h1 h2 => ?_)
  unfold fC
  rw [tbl_c F s (s + 1 - a) (by omega)]
theorem Cv_l {s : Nat} (h : 0 < s) : Lst (fun a => 1 ≤ a ∧ a ≤ s) (fC F (Cv F) s) (Cv F s) := by
  obtain ⟨j, rfl⟩ : ∃ j, s = j + 1 := ⟨s - 1, by omega⟩
  rw [Cv_s]
  exact mnU_l _ _
theorem Cv_le : ∀ s k, Cv F s = some k → k ≤ s := by
  intro s
  induction s using Nat.strongRecOn with
  | ind s ih =>
    intro k hk
    by_cases h : s = 0
    · subst h
      cases hk
      exact Nat.le_refl _
    · obtain ⟨a, ⟨h1, h2⟩, hf⟩ := (Cv_l F (show 0 < s by omega)).2 k hk
      unfold fC at hf
      split at hf
      · cases e : Cv F (s - a) with
        | none => rw [e] at hf; cases hf
        | some j =>
          rw [e] at hf
          cases hf
          have := ih (s - a) (by omega) j e
          show j + 1 ≤ s
          omega
      · cases hf
theorem fC_i {s a k : Nat} (h : fC F (Cv F) s a = some k) : sbm s a = true ∧ F a = true ∧ ∃ j, Cv F (s - a) = some j ∧ k = j + 1 := by
  unfold fC at h
  split at h
  · rename_i c
    rw [Bool.and_eq_true] at c
    cases e : Cv F (s - a) with
    | none => rw [e] at h; cases h
    | some j =>
      rw [e] at h
      cases h
      exact ⟨c.1, c.2, j, rfl, rfl⟩
  · cases h
theorem fC_o {s a j : Nat} (h1 : sbm s a = true) (h2 : F a = true) (h3 : Cv F (s - a) = some j) : fC F (Cv F) s a = some (j + 1) := by
  unfold fC
  rw [h1, h2, h3]
  rfl
/-- it is enough to look at boats with the first of them -/
theorem key : ∀ s, 0 < s → s < 32 → Lst (fun a => 1 ≤ a ∧ a ≤ s) (fX F (Cv F) s) (Cv F s) := by
  intro s
  induction s using Nat.strongRecOn with
  | ind s ih =>
    intro h0 h32
    have hl := Cv_l F h0
    have sub : ∀ a k, fX F (Cv F) s a = some k → fC F (Cv F) s a = some k := by
      intro a k h
      unfold fX at h
      unfold fC
      split at h
      · rename_i c
        rw [Bool.and_eq_true] at c
        rw [if_pos c.2]
        exact h
      · cases h
    have good : ∀ k, Cv F s = some k → ∃ a j, 1 ≤ a ∧ a ≤ s ∧ fX F (Cv F) s a = some j ∧ j ≤ k := by
      intro k hk
      obtain ⟨a, ⟨a1, a2⟩, hf⟩ := hl.2 k hk
      obtain ⟨f1, f2, j, f3, rfl⟩ := fC_i F hf
      cases e : hasB a (low s) with
      | true =>
        refine ⟨a, j + 1, a1, a2, ?_, Nat.le_refl _⟩
        unfold fX
        rw [e, f1, f2, f3]
        rfl
      | false =>
        obtain ⟨d1, d2⟩ := sb_D1 s h32 a (by omega) (by rw [f1, e, decide_eq_true (show 0 < a by omega)]; rfl)
        obtain ⟨b, ⟨b1, b2⟩, hb⟩ := (ih (s - a) (by omega) d1 (by omega)).2 j f3
        unfold fX at hb
        split at hb
        · rename_i c
          rw [Bool.and_eq_true, Bool.and_eq_true] at c
          obtain ⟨c1, c2, c3⟩ := c
          obtain ⟨e12, e3⟩ := sb_D2 s h32 a (by omega) b (by omega) (by rw [f1, c2]; rfl)
          rw [Bool.and_eq_true] at e12
          obtain ⟨e1, e2⟩ := e12
          cases g : Cv F (s - a - b) with
          | none => rw [g] at hb; cases hb
          | some i =>
            rw [g] at hb
            have hb : i + 1 = j := by cases hb; rfl
            have q1 : fC F (Cv F) (s - b) a = some (i + 1) := fC_o F e2 f2 (by rw [e3]; exact g)
            have bs := sb_le s h32 b (by omega) e1
            have as := sb_le (s - b) (by omega) a (by omega) e2
            obtain ⟨q, q2, q3⟩ := (Cv_l F (show 0 < s - b by omega)).1 a (i + 1) ⟨a1, as⟩ q1
            refine ⟨b, q + 1, b1, bs, ?_, by omega⟩
            unfold fX
            rw [← d2, c1, e1, c3, q2]
            rfl
        · cases hb
    constructor
    · intro a k ha hf
      exact hl.1 a k ha (sub a k hf)
    · intro k hk
      obtain ⟨a, j, a1, a2, h1, h2⟩ := good k hk
      obtain ⟨i, h3, h4⟩ := hl.1 a j ⟨a1, a2⟩ (sub a j h1)
      rw [hk] at h3
      cases h3
      exact ⟨a, ⟨a1, a2⟩, by rw [h1, show j = k by omega]⟩
end CROSS
