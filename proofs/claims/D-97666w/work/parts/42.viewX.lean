/-! what LockTurns holds, as numbers -/
set_option maxRecDepth 100000
/-- a Told at the cell j -/
def isTold (w : GW) (r : Rfm) (j : Nat) : Prop := w.2.1 j = .inl (1, 4, bX1) ∧ w.2.1 (j + 1) = .inr (.inl (0, 6)) ∧ w.2.1 (j + 2) = .inr (.inl (0, 6)) ∧ w.2.1 (j + 3) = .inr (.inr (4, 6)) ∧ (∀ b, b < 6 → w.2.1 (j + 4 + b) = .inr (.inl (0, 4))) ∧ j + 10 ≤ w.1 ∧ r j 0 = some (w.2.2 (j + 1)) ∧ r j 1 = some (w.2.2 (j + 2)) ∧ r j 2 = some (w.2.2 (j + 3)) ∧ ∀ b, b < 6 → r (j + 3) b = some (w.2.2 (j + 4 + b))
theorem six_cases {P : Nat → Prop} (h0 : P 0) (h1 : P 1) (h2 : P 2) (h3 : P 3) (h4 : P 4) (h5 : P 5) : ∀ b, b < 6 → P b := by
  intro b hb
  rcases (by omega : b = 0 ∨ b = 1 ∨ b = 2 ∨ b = 3 ∨ b = 4 ∨ b = 5) with h | h | h | h | h | h <;> subst h <;> assumption
theorem told_2 (ad : Nat → Nat) (ro : Nat → Option Nat) (gt : Option Nat) : isTold (wX ad) (rX ad ro gt) 2 := ⟨rfl, rfl, rfl, rfl, six_cases rfl rfl rfl rfl rfl rfl, Nat.le_of_ble_eq_true rfl, rfl, rfl, rfl, fun b _ => by rw [show 2 + 4 + b = 6 + b by omega]; rfl⟩
theorem told_26 (ad : Nat → Nat) (ro : Nat → Option Nat) (gt : Option Nat) : isTold (wX ad) (rX ad ro gt) 26 := ⟨rfl, rfl, rfl, rfl, six_cases rfl rfl rfl rfl rfl rfl, Nat.le_of_ble_eq_true rfl, rfl, rfl, rfl, fun b _ => by rw [show 26 + 4 + b = 30 + b by omega]; rfl⟩
theorem told_38 (ad : Nat → Nat) (ro : Nat → Option Nat) (gt : Option Nat) : isTold (wX ad) (rX ad ro gt) 38 := ⟨rfl, rfl, rfl, rfl, six_cases rfl rfl rfl rfl rfl rfl, Nat.le_of_ble_eq_true rfl, rfl, rfl, rfl, fun b _ => by rw [show 38 + 4 + b = 42 + b by omega]; rfl⟩
theorem told_56 (ad : Nat → Nat) (ro : Nat → Option Nat) (gt : Option Nat) : isTold (wX ad) (rX ad ro gt) 56 := ⟨rfl, rfl, rfl, rfl, six_cases rfl rfl rfl rfl rfl rfl, Nat.le_of_ble_eq_true rfl, rfl, rfl, rfl, fun b _ => by rw [show 56 + 4 + b = 60 + b by omega]; rfl⟩
theorem told_73 (ad : Nat → Nat) (ro : Nat → Option Nat) (gt : Option Nat) : isTold (wX ad) (rX ad ro gt) 73 := ⟨rfl, rfl, rfl, rfl, six_cases rfl rfl rfl rfl rfl rfl, Nat.le_of_ble_eq_true rfl, rfl, rfl, rfl, fun b _ => by rw [show 73 + 4 + b = 77 + b by omega]; rfl⟩
/-- the liars, of all six -/
def lmx (t : Nat → Nat) : Nat := lm t 6
/-- the Told at j holds t -/
def TdV (v : Mem) (j : Nat) (t : Nat → Nat) : Prop := (∀ k, k < 6 → v (j + 1) k = nI (t k)) ∧ (∀ b, b < 6 → v (j + 2) b = nI (t (6 + 6 * b))) ∧ (∀ b, b < 6 → ∀ k, k < 4 → v (j + 4 + b) k = nI (t (6 + 6 * b + 1 + k))) ∧ v j 3 = nI (lmx t)
theorem lmx_64 (t : Nat → Nat) : lmx t < 64 := mk_64 _ (Nat.le_refl 6)
theorem lmx_bit (t : Nat → Nat) {b : Nat} (hb : b < 6) : (lmx t).testBit b = decide (t (6 + 6 * b + 5) = 1) := by
  unfold lmx lm; rw [mk_bit]; simp [hb]
/-- what 'now' holds -/
abbrev NwV (v : Mem) (t : Nat → Nat) : Prop := TdV v 2 t
theorem NwV.b {v : Mem} {t : Nat → Nat} (h : NwV v t) {b k : Nat} (hb : b < 6) (hk : k < 4) : v (6 + b) k = nI (t (6 + 6 * b + 1 + k)) := by
  have := h.2.2.1 b hb k hk
  rw [show 2 + 4 + b = 6 + b by omega] at this
  exact this
/-- how far ahead one counts -/
def ahd (t : Nat → Nat) (b : Nat) : Nat := if t 5 = 1 ∧ t 4 < t (6 + 6 * b + 4) then t (6 + 6 * b + 4) else t 4
theorem cnt_max {t : Nat → Nat} {b ah : Nat} (hT : TB t) (h : ah = ahd t b) : (if (0 : Int32).toInt < (nI (t (6 + 6 * b + 2)) - nI ah).toInt then (nI (t (6 + 6 * b + 2)) - nI ah) else 0) = nI (cnt t b) := by
  have h1 := hT (6 + 6 * b + 2)
  have h2 : ah ≤ 200 := by
    rw [h]; unfold ahd
    have := hT (6 + 6 * b + 4)
    have := hT 4
    split <;> omega
  rw [pk_sub_toInt (by omega) (by omega)]
  have e0 : (0 : Int32).toInt = 0 := by decide
  have hc : cnt t b = t (6 + 6 * b + 2) - ah := by rw [h]; rfl
  by_cases q : (0 : Int32).toInt < (t (6 + 6 * b + 2) : Int) - ah
  · rw [if_pos q, hc, pk_sub (by omega)]
  · rw [if_neg q, hc, show t (6 + 6 * b + 2) - ah = 0 by omega]; rfl
