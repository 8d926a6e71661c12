/-! orders by numbers to the base 6 -/
set_option maxRecDepth 100000
theorem nI_sub1 {j : Nat} (h : 1 ≤ j) : nI j - 1 = nI (j - 1) := pk_sub (b := 1) h
theorem dec_eq (x : Int32) : x + Int32.ofInt (-1) = x - 1 := by
  rw [show Int32.ofInt (-1) = -1 from by decide, Int32.sub_eq_add_neg]
def dg (num n i : Nat) : Nat := num / 6 ^ (n - 1 - i) % 6
theorem dg_lt (num n i : Nat) : dg num n i < 6 := Nat.mod_lt _ (by decide)
abbrev isOrd (num n : Nat) : Prop := (∀ i, i < n → dg num n i < n) ∧ ∀ c, c < n → ∃ i, i < n ∧ dg num n i = c
theorem pow6 {n : Nat} (hn : n ≤ 6) : 6 ^ n ≤ 46656 := by
  have := Nat.pow_le_pow_right (n := 6) (by omega) hn
  omega
theorem div_step {num n j : Nat} (hj : 1 ≤ j) (hn : j ≤ n) : num / 6 ^ (n - j) / 6 = num / 6 ^ (n - (j - 1)) := by
  rw [Nat.div_div_eq_div_mul, ← Nat.pow_succ, show (n - j).succ = n - (j - 1) by omega]
theorem dg_at {num n j : Nat} (hj : 1 ≤ j) (hn : j ≤ n) : num / 6 ^ (n - j) % 6 = dg num n (j - 1) := by
  unfold dg; rw [show n - 1 - (j - 1) = n - j by omega]
theorem or_bits {y d c : Nat} : (y ||| 2 ^ d).testBit c = (y.testBit c || decide (d = c)) := by
  rw [Nat.testBit_or, Nat.testBit_two_pow]
theorem or_64 {y d : Nat} (hy : y < 64) (hd : d < 6) : y ||| 2 ^ d < 64 := by
  have h1 : (2 : Nat) ^ d < 2 ^ 6 := Nat.pow_lt_pow_right (by omega) hd
  exact Nat.or_lt_two_pow (n := 6) hy h1
theorem full_iff_ : ∀ n, n < 7 → ∀ y, y < 64 → (y = 2 ^ n - 1 ↔ ∀ c, c < 6 → (y.testBit c = true ↔ c < n)) := by decide +kernel
theorem isOrd_iff {num n y : Nat} (hn : n ≤ 6) (hy : y < 64) (hb : ∀ c, c < 6 → (y.testBit c = true ↔ ∃ i, i < n ∧ dg num n i = c)) : y = 2 ^ n - 1 ↔ isOrd num n := by
  rw [full_iff_ n (by omega) y hy]
  constructor
  · intro h
    refine ⟨fun i hi => ?_, fun c hc => ?_⟩
    · have hd := dg_lt num n i
      exact (h _ hd).mp ((hb _ hd).mpr ⟨i, hi, rfl⟩)
    · exact (hb c (by omega)).mp ((h c (by omega)).mpr hc)
  · rintro ⟨h1, h2⟩ c hc
    rw [hb c hc]
    constructor
    · rintro ⟨i, i1, i2⟩
      rw [← i2]; exact h1 i i1
    · exact h2 c
def ocost (t : Nat → Nat) (n num : Nat) : Nat := cost t (dS (oIt t (dg num n) n)) n
/-- the best of the orders below k: its number, its cost -/
def oF (t : Nat → Nat) (n big : Nat) : Nat → Nat × Nat
  | 0 => (0, big)
  | k + 1 => if isOrd k n ∧ ocost t n k < (oF t n big k).2 then (k, ocost t n k) else oF t n big k
theorem oF_T {t : Nat → Nat} {n big k : Nat} (h : isOrd k n) (h2 : ocost t n k < (oF t n big k).2) : oF t n big (k + 1) = (k, ocost t n k) := by simp only [oF]; rw [if_pos ⟨h, h2⟩]
theorem oF_F {t : Nat → Nat} {n big k : Nat} (h : ¬ isOrd k n ∨ (oF t n big k).2 ≤ ocost t n k) : oF t n big (k + 1) = oF t n big k := by
  simp only [oF]; rw [if_neg]
  intro q
  rcases h with h | h
  · exact h q.1
  · omega
theorem oF_same {t : Nat → Nat} {n a b k : Nat} (hk : isOrd k n) (ha : ∀ j, ocost t n j < a) (hb : ∀ j, ocost t n j < b) : ∀ K, (K ≤ k → (oF t n a K = (0, a) ∧ oF t n b K = (0, b)) ∨ oF t n a K = oF t n b K) ∧ (k < K → oF t n a K = oF t n b K)
  | 0 => ⟨fun _ => Or.inl ⟨rfl, rfl⟩, fun h => absurd h (Nat.not_lt_zero _)⟩
  | K + 1 => by
    obtain ⟨h1, h2⟩ := oF_same hk ha hb K
    have key : ((oF t n a K = (0, a) ∧ oF t n b K = (0, b)) ∨ oF t n a K = oF t n b K) → ((oF t n a (K + 1) = (0, a) ∧ oF t n b (K + 1) = (0, b)) ∨ oF t n a (K + 1) = oF t n b (K + 1)) ∧ (isOrd K n → oF t n a (K + 1) = oF t n b (K + 1)) := by
      intro q
      by_cases hK : isOrd K n
      · rcases q with ⟨q1, q2⟩ | q
        · have e1 := oF_T (t := t) (big := a) hK (by rw [q1]; exact ha K)
          have e2 := oF_T (t := t) (big := b) hK (by rw [q2]; exact hb K)
          exact ⟨Or.inr (by rw [e1, e2]), fun _ => by rw [e1, e2]⟩
        · have e : oF t n a (K + 1) = oF t n b (K + 1) := by simp only [oF]; rw [q]
          exact ⟨Or.inr e, fun _ => e⟩
      · rw [oF_F (t := t) (big := a) (Or.inl hK), oF_F (t := t) (big := b) (Or.inl hK)]
        exact ⟨q, fun z => absurd z hK⟩
    refine ⟨fun h => (key (h1 (by omega))).1, fun h => ?_⟩
    by_cases e : K = k
    · subst e; exact (key (h1 (by omega))).2 hk
    · have := h2 (by omega)
      simp only [oF]; rw [this]
theorem ord_ex : ∀ n, n < 7 → ∃ k, k < 6 ^ n ∧ isOrd k n := by
  intro n hn
  rcases (by omega : n = 0 ∨ n = 1 ∨ n = 2 ∨ n = 3 ∨ n = 4 ∨ n = 5 ∨ n = 6) with h | h | h | h | h | h | h <;> subst h
  · exact ⟨0, by decide, by decide⟩
  · exact ⟨0, by decide, by decide⟩
  · exact ⟨1, by decide, by decide⟩
  · exact ⟨8, by decide, by decide⟩
  · exact ⟨51, by decide, by decide⟩
  · exact ⟨310, by decide, by decide⟩
  · exact ⟨1865, by decide, by decide⟩
theorem ocost_le {t : Nat → Nat} {n : Nat} (hn : n ≤ 6) (hw : WT t) (num : Nat) : ocost t n num ≤ 172800 := by
  have h := oIt_ok (row := dg num n) hn hw (fun i _ => dg_lt _ _ _) n (Nat.le_refl n)
  have := cost_le hw (s := dS (oIt t (dg num n) n)) (fun b => by have := h.2.2.2.1 b; omega) n hn
  unfold ocost; omega
theorem oF_big {t : Nat → Nat} {n : Nat} (hn : n ≤ 6) (hw : WT t) : oF t n 1000000000 (6 ^ n) = oF t n 1000000 (6 ^ n) := by
  obtain ⟨k, k1, k2⟩ := ord_ex n (by omega)
  exact (oF_same k2 (fun j => by have := ocost_le hn hw j; omega) (fun j => by have := ocost_le hn hw j; omega) (6 ^ n)).2 k1
theorem oF_lt {t : Nat → Nat} {n big : Nat} : ∀ K, (oF t n big K).1 = 0 ∨ (oF t n big K).1 < K
  | 0 => Or.inl rfl
  | K + 1 => by
    have := oF_lt (t := t) (n := n) (big := big) K
    simp only [oF]
    split
    · right; show K < K + 1; omega
    · omega
theorem ord_full {num n : Nat} (h : isOrd num n) (hn : n ≤ 6) : oL n (dg num n) n = 0 := oL_zero hn (fun i _ => dg_lt _ _ _) h.2
def qOrder (t : Nat → Nat) (n : Nat) (a : Int32) : Int32 := if a = 0 ∨ (10 ≤ a.toInt ∧ a.toInt < 10 + n) then (if a = 0 then nI (oF t n 1000000 (6 ^ n)).2 else nI (dg (oF t n 1000000 (6 ^ n)).1 n (nn a - 10))) else -1
theorem row_step {v1 : Mem} {j q : Nat} {f : Nat → Int32} {x : Int32} (h : ∀ z, z < q → v1 j z = f z) (hx : x = f q) : ∀ z, z < q + 1 → st2 v1 j q x j z = f z := by
  intro z hz
  by_cases e : z = q
  · subst e; rw [st2_same, hx]
  · rw [st2_at _ _ _ e]; exact h z (by omega)
theorem ord_bits {m n j x y : Nat} (hj1 : 1 ≤ j) (hj : j ≤ n) (hb : ∀ c, c < 6 → (y.testBit c = true ↔ ∃ i, i < n ∧ j ≤ i ∧ dg m n i = c)) (hx : x % 6 = dg m n (j - 1)) : ∀ c, c < 6 → ((y ||| 2 ^ (x % 6)).testBit c = true ↔ ∃ i, i < n ∧ j - 1 ≤ i ∧ dg m n i = c) := by
  intro c hc
  rw [or_bits, hx]
  constructor
  · intro h
    by_cases e : dg m n (j - 1) = c
    · exact ⟨j - 1, by omega, by omega, e⟩
    · obtain ⟨i, i1, i2, i3⟩ := (hb c hc).mp (by simpa [e] using h)
      exact ⟨i, i1, by omega, i3⟩
  · rintro ⟨i, i1, i2, i3⟩
    by_cases e : i = j - 1
    · rw [e] at i3; simp [i3]
    · have := (hb c hc).mpr ⟨i, i1, by omega, i3⟩
      simp [this]
theorem ord_row {v1 : Mem} {m n j : Nat} {x : Int32} (hj1 : 1 ≤ j) (h : ∀ i, i < n → j ≤ i → v1 9 i = nI (dg m n i)) (hx : x = nI (dg m n (j - 1))) : ∀ i, i < n → j - 1 ≤ i → st2 v1 9 (j - 1) x 9 i = nI (dg m n i) := by
  intro i h1 h2
  by_cases e : i = j - 1
  · subst e; rw [st2_same, hx]
  · rw [st2_at _ _ _ e]; exact h i h1 (by omega)
theorem sub10 (a : Int32) : (10 ≤ a.toInt → (a - 10).toInt = a.toInt - 10) ∧ (a.toInt < 10 → (a - 10).toInt < 0 ∨ 1000 < (a - 10).toInt) := by
  have h1 := a.toInt_lt
  have h2 := a.le_toInt
  have h3 : (a - 10).toInt = (a.toInt - 10).bmod (2 ^ 32) := by rw [Int32.toInt_sub]; rfl
  rw [h3, Int.bmod_def]
  constructor
  · intro h; split <;> omega
  · intro h; split <;> omega
theorem ten_k {a : Int32} {n : Nat} (hn : n ≤ 6) (h : a = 0 ∨ (10 ≤ a.toInt ∧ a.toInt < 10 + n)) (h0 : ¬ a = 0) : ∃ k, k < n ∧ a = nI (10 + k) := by
  rcases h with h | h
  · exact absurd h h0
  · obtain ⟨z, z1, z2⟩ := ex_nI (x := a) (n := 16) (by omega) (by omega)
    subst z2
    rw [nI_toInt (by omega)] at h
    exact ⟨z - 10, by omega, by rw [show 10 + (z - 10) = z by omega]⟩
