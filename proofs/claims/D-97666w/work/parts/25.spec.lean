/-! THE PLAIN PICTURE: what is told, as numbers t (0..5 the lock, 6 + 6 b + k the boats), a day -/
set_option maxRecDepth 100000
def bitN (L b : Nat) : Nat := if L.testBit b then 1 else 0
theorem bitN_1 {L b : Nat} (h : bitN L b = 1) : L.testBit b = true := by
  unfold bitN at h; split at h
  · assumption
  · omega
theorem bitN_0 {L b : Nat} (h : bitN L b ≠ 1) : L.testBit b = false := by
  unfold bitN at h; split at h
  · omega
  · rename_i h2; simpa using h2
theorem bitN_le (L b : Nat) : bitN L b ≤ 1 := by unfold bitN; split <;> omega
theorem bitN_lt (L b : Nat) : bitN L b < 2147483648 := by have := bitN_le L b; omega
theorem bit_ok_ : ∀ L, L < 128 → ∀ b, b < 8 → ((nI L >>> (nI b &&& 31)) &&& 1) = nI (bitN L b) := by decide +kernel
theorem bit_ok {L b : Nat} (hL : L < 128) (hb : b < 8) : ((nI L >>> (nI b &&& 31)) &&& 1) = nI (bitN L b) := bit_ok_ L hL b hb
theorem or_bit_ : ∀ b, b < 8 → ∀ L, L < 128 → L < 2 ^ b → (nI L ||| (1 <<< (nI b &&& 31))) = nI (L + 2 ^ b) := by decide +kernel
theorem or_bit {L b : Nat} (hb : b < 8) (hL : L < 2 ^ b) : (nI L ||| (1 <<< (nI b &&& 31))) = nI (L + 2 ^ b) :=
  or_bit_ b hb L (Nat.lt_of_lt_of_le hL (by
    have : b ≤ 7 := by omega
    exact Nat.pow_le_pow_right (n := 2) (by omega) this)) hL
theorem or_zero_ : ∀ b, b < 8 → (0 : Int32) <<< (nI b &&& 31) = 0 := by decide +kernel
theorem or_zero {L b : Nat} (hb : b < 8) : (nI L ||| ((0 : Int32) <<< (nI b &&& 31))) = nI L := by rw [or_zero_ b hb]; simp
theorem or_any_ : ∀ b, b < 6 → ∀ L, L < 64 → (nI L ||| (1 <<< (nI b &&& 31))) = nI (L ||| 2 ^ b) := by decide +kernel
theorem shl_one_ : ∀ b, b < 8 → (1 : Int32) <<< (nI b &&& 31) = nI (2 ^ b) := by decide +kernel
theorem full_ : ∀ n, n < 7 → ((1 : Int32) <<< (nI n &&& 31)) - 1 = nI (2 ^ n - 1) := by decide +kernel
def clr (L b : Nat) : Nat := if L.testBit b then L - 2 ^ b else L
theorem clr_ok_ : ∀ L, L < 64 → ∀ b, b < 6 → (nI L &&& ((1 <<< (nI b &&& 31)) ^^^ (-1))) = nI (clr L b) := by decide +kernel
theorem clr_ok {L b : Nat} (hL : L < 64) (hb : b < 6) : (nI L &&& ((1 <<< (nI b &&& 31)) ^^^ (-1))) = nI (clr L b) := clr_ok_ L hL b hb
theorem clr_bit_ : ∀ L, L < 64 → ∀ b, b < 6 → ∀ c, c < 6 → (clr L b).testBit c = (L.testBit c && decide (c ≠ b)) := by decide +kernel
theorem clr_bit {L b c : Nat} (hL : L < 64) (hb : b < 6) (hc : c < 6) : (clr L b).testBit c = (L.testBit c && decide (c ≠ b)) := clr_bit_ L hL b hb c hc
theorem clr_lt {L : Nat} (b : Nat) (hL : L < 64) : clr L b < 64 := by
  unfold clr
  split
  · exact Nat.lt_of_le_of_lt (Nat.sub_le _ _) hL
  · exact hL
/-- numbers out of bits -/
def mk (S : Nat → Bool) : Nat → Nat
  | 0 => 0
  | b + 1 => mk S b + if S b then 2 ^ b else 0
theorem mk_lt (S : Nat → Bool) : ∀ n, mk S n < 2 ^ n
  | 0 => by simp [mk]
  | n + 1 => by
    have := mk_lt S n
    simp only [mk, Nat.pow_succ]
    split <;> omega
theorem mk_T {S : Nat → Bool} {b : Nat} (h : S b = true) : mk S (b + 1) = mk S b + 2 ^ b := by simp [mk, h]
theorem mk_F {S : Nat → Bool} {b : Nat} (h : S b = false) : mk S (b + 1) = mk S b := by simp [mk, h]
theorem mk_bit (S : Nat → Bool) : ∀ n b, (mk S n).testBit b = (decide (b < n) && S b)
  | 0, b => by simp [mk]
  | n + 1, b => by
    have ih := mk_bit S n
    have hl := mk_lt S n
    by_cases hS : S n = true
    · rw [mk_T hS, Nat.add_comm]
      by_cases hb : b = n
      · subst hb
        rw [Nat.testBit_two_pow_add_eq, ih]
        simp [hS]
      · by_cases hlt : b < n
        · rw [Nat.testBit_two_pow_add_gt hlt, ih]
          simp [hlt, Nat.lt_succ_of_lt hlt]
        · have h2 : 2 ^ n + mk S n < 2 ^ b := by
            have : n + 1 ≤ b := by omega
            have h3 := Nat.pow_le_pow_right (n := 2) (by omega) this
            rw [Nat.pow_succ] at h3
            omega
          rw [Nat.testBit_lt_two_pow h2]
          have : ¬ b < n + 1 := by omega
          simp [this]
    · have hS' : S n = false := by simpa using hS
      rw [mk_F hS', ih]
      by_cases hb : b = n
      · subst hb; simp [hS']
      · have : (b < n) ↔ (b < n + 1) := by omega
        simp [this]
theorem mk_zero {S : Nat → Bool} {n : Nat} (h : mk S n = 0) : ∀ b, b < n → S b = false := by
  intro b hb
  have := mk_bit S n b
  rw [h] at this
  simpa [hb] using this.symm
theorem mk_64 (S : Nat → Bool) {n : Nat} (hn : n ≤ 6) : mk S n < 64 := by
  have h1 := mk_lt S n
  have h2 := Nat.pow_le_pow_right (n := 2) (by omega) hn
  omega
/-- how many -/
def cn (S : Nat → Bool) : Nat → Nat
  | 0 => 0
  | b + 1 => cn S b + if S b then 1 else 0
theorem cn_le (S : Nat → Bool) : ∀ n, cn S n ≤ n
  | 0 => Nat.le_refl _
  | n + 1 => by have := cn_le S n; simp only [cn]; split <;> omega
theorem cn_congr {S T : Nat → Bool} : ∀ n, (∀ b, b < n → S b = T b) → cn S n = cn T n
  | 0, _ => rfl
  | n + 1, h => by simp only [cn]; rw [cn_congr n (fun b hb => h b (by omega)), h n (by omega)]
theorem cn_mk (S : Nat → Bool) (n : Nat) : ∀ k, n ≤ k → cn (fun b => (mk S n).testBit b) k = cn S n := by
  have h1 : cn (fun b => (mk S n).testBit b) n = cn S n := cn_congr n (fun b hb => by rw [mk_bit]; simp [hb])
  intro k hk
  induction k with
  | zero => rw [show n = 0 by omega] at h1 ⊢; exact h1
  | succ k ih =>
    by_cases h : n = k + 1
    · rw [← h]; exact h1
    · rw [← ih (by omega)]
      simp only [cn, mk_bit]
      have : ¬ k < n := by omega
      simp [this]
/-- the first of the least (100: none) -/
def ea (S : Nat → Bool) (key : Nat → Nat) : Nat → Nat
  | 0 => 100
  | b + 1 => if S b = true ∧ (ea S key b = 100 ∨ key b < key (ea S key b)) then b else ea S key b
def enc (f : Nat) : Int32 := if f = 100 then -4 else nI f
/-- when one counts -/
def cnt (t : Nat → Nat) (b : Nat) : Nat := t (6 + 6 * b + 2) - (if t 5 = 1 ∧ t 4 < t (6 + 6 * b + 4) then t (6 + 6 * b + 4) else t 4)
/-- the bounds of what is told -/
def TB (t : Nat → Nat) : Prop := ∀ k, t k ≤ 200
theorem TB.lt {t : Nat → Nat} (h : TB t) (k : Nat) : t k < 2147483648 := by have := h k; omega
theorem cnt_le {t : Nat → Nat} (h : TB t) (b : Nat) : cnt t b ≤ 200 := by have := h (6 + 6 * b + 2); unfold cnt; omega
/-- the row 'at' holds t -/
def AtV (v : Mem) (t : Nat → Nat) : Prop := ∀ k, k < 42 → v 2 k = nI (t k)
