/-! what was seen, days by a seed, images, sheets -/
set_option maxRecDepth 100000
def soF (d : Day) (se : Nat → Nat) : Nat → Bool
  | 0 => true
  | k + 1 => soF d se k && decide (dP d (se (2 * k)) = se (2 * k + 1))
abbrev Q4 : Type := Nat × Nat × Nat × Nat
def ftI (P : Nat → Bool) (l : Nat) (q0 : Q4) : Nat → Q4
  | 0 => q0
  | s + 1 => if P s then ((ftI P l q0 s).1 + 1, (ftI P l q0 s).2.1 ||| 2 ^ l, (ftI P l q0 s).2.2.1 &&& s, (ftI P l q0 s).2.2.2 ||| s) else ftI P l q0 s
def ftO (P : Nat → Nat → Bool) (n : Nat) : Nat → Q4
  | 0 => (0, 0, 2 ^ n - 1, 0)
  | l + 1 => ftI (P l) l (ftO P n l) (2 ^ n)
theorem ft_T {P : Nat → Bool} {l s : Nat} {q0 : Q4} (h : P s = true) : ftI P l q0 (s + 1) = ((ftI P l q0 s).1 + 1, (ftI P l q0 s).2.1 ||| 2 ^ l, (ftI P l q0 s).2.2.1 &&& s, (ftI P l q0 s).2.2.2 ||| s) := by simp [ftI, h]
theorem ft_F {P : Nat → Bool} {l s : Nat} {q0 : Q4} (h : P s = false) : ftI P l q0 (s + 1) = ftI P l q0 s := by simp [ftI, h]
def andn (a b : Nat) : Nat := a &&& (63 ^^^ b)
theorem andn_ok_ : ∀ a, a < 64 → ∀ b, b < 64 → nI a &&& (nI b ^^^ (-1)) = nI (andn a b) := by decide +kernel
theorem andn_ok {a b : Nat} (ha : a < 64) (hb : b < 64) : nI a &&& (nI b ^^^ (-1)) = nI (andn a b) := andn_ok_ a ha b hb
theorem or64 {a b : Nat} (ha : a < 64) (hb : b < 64) : a ||| b < 64 := Nat.or_lt_two_pow (n := 6) ha hb
theorem and64 {a b : Nat} (ha : a < 64) : a &&& b < 64 := Nat.lt_of_le_of_lt Nat.and_le_left ha
def qFits (t : Nat → Nat) (n sm : Nat) (se : Nat → Nat) (a : Int32) : Int32 := if inI a 0 3 then (if a.toInt < 2 then (if a = 0 then nI (ftO (fun l s => soF (day (liesT t s n) n l 0) se sm) n 5).1 else nI (ftO (fun l s => soF (day (liesT t s n) n l 0) se sm) n 5).2.1) else if (ftO (fun l s => soF (day (liesT t s n) n l 0) se sm) n 5).1 = 0 then -4 else if a.toInt = 2 then nI (ftO (fun l s => soF (day (liesT t s n) n l 0) se sm) n 5).2.2.1 else nI (andn (2 ^ n - 1) (ftO (fun l s => soF (day (liesT t s n) n l 0) se sm) n 5).2.2.2)) else -1
/-- the seed's numbers -/
def drZ (z : Int32) : Int32 := z * 1103515245 + 12345
def drV (z : Int32) : Nat := ((z >>> ((16 : Int32) &&& 31)) &&& (32767 : Int32)).toNatClampNeg % 40
theorem drV_ok (z : Int32) : ((z >>> ((16 : Int32) &&& 31)) &&& (32767 : Int32)) - ((z >>> ((16 : Int32) &&& 31)) &&& (32767 : Int32)) / (40 : Int32) * (40 : Int32) = nI (drV z) := by
  obtain ⟨j, h1, h2⟩ := pk_andE (z >>> ((16 : Int32) &&& 31)) (m := 32767) 15 (by decide)
  unfold drV
  rw [h2, nI_clamp (by omega)]
  exact pk_rem (d := 40) (by omega) (by decide) (by decide)
theorem drV_lt (z : Int32) : drV z < 40 := Nat.mod_lt _ (by decide)
def drI (z : Int32) (t : Nat → Nat) : Nat → Int32 × (Nat → Nat)
  | 0 => (z, t)
  | b + 1 => (drZ (drI z t b).1, up (drI z t b).2 (6 + 6 * b + 2) (drV (drZ (drI z t b).1)))
theorem drI_wt {z : Int32} {t : Nat → Nat} (h : WT t) : ∀ b, WT (drI z t b).2
  | 0 => h
  | b + 1 => (drI_wt h b).boat (k := 2) (by omega) (by have := drV_lt (drZ (drI z t b).1); omega) (by omega) (by omega) (by omega) (by omega)
theorem drI_low {z : Int32} {t : Nat → Nat} {k : Nat} (hk : k < 6) : ∀ b, (drI z t b).2 k = t k
  | 0 => rfl
  | b + 1 => by show up (drI z t b).2 _ _ k = t k; rw [up_ne _ (by omega), drI_low hk b]
def drO (t : Nat → Nat) (n : Nat) (w : Nat) (z : Int32) : Nat → (Int32 × (Nat → Nat)) × Nat
  | 0 => ((z, t), 0)
  | k + 1 => (drI (drO t n w z k).1.1 (drO t n w z k).1.2 n, (drO t n w z k).2 + if w = 0 then cost (drI (drO t n w z k).1.1 (drO t n w z k).1.2 n).2 (dS (day (drI (drO t n w z k).1.1 (drO t n w z k).1.2 n).2 n (t 3) 0)) n else dW (day (drI (drO t n w z k).1.1 (drO t n w z k).1.2 n).2 n (t 3) 0))
theorem drO_wt {t : Nat → Nat} {n w : Nat} {z : Int32} (h : WT t) : ∀ k, WT (drO t n w z k).1.2 ∧ (drO t n w z k).1.2 3 = t 3
  | 0 => ⟨h, rfl⟩
  | k + 1 => ⟨drI_wt (drO_wt h k).1 n, by show (drI _ _ n).2 3 = t 3; rw [drI_low (by decide), (drO_wt h k).2]⟩
def qDrift (t : Nat → Nat) (n : Nat) (z c a : Int32) : Int32 := if inI c 1 20 ∧ inI a 0 1 then nI (drO t n (nn a) z (nn c)).2 else -1
/-- 55 places copied within the row 'st' -/
def CPY (to src : Nat) (v v' : Mem) : Prop := (∀ q, q < 55 → v' 1 (to + q) = v 1 (src + q)) ∧ (∀ q, q < to ∨ to + 55 ≤ q → v' 1 q = v 1 q) ∧ ∀ j, j ≠ 1 → v' j = v j
theorem cp2_step {v v1 : Mem} {to src k : Nat} {x : Int32} (hc : ∀ q, q < k → v1 1 (to + q) = v 1 (src + q)) (hx : x = v 1 (src + k)) : ∀ q, q < k + 1 → st2 v1 1 (to + k) x 1 (to + q) = v 1 (src + q) := by
  intro q hq
  by_cases e : q = k
  · subst e; rw [st2_same, hx]
  · rw [st2_at _ _ _ (by omega)]; exact hc q (by omega)
theorem cp2_out {v v1 : Mem} {to k : Nat} {x : Int32} (hk : k < 55) (ho : ∀ q, q < to ∨ to + 55 ≤ q → v1 1 q = v 1 q) : ∀ q, q < to ∨ to + 55 ≤ q → st2 v1 1 (to + k) x 1 q = v 1 q := by
  intro q hq
  rw [st2_at _ _ _ (by omega)]; exact ho q hq
theorem nI_mm {n : Nat} (h : n ≤ 40) : (nI n - 1).toInt64.toInt = (n : Int) - 1 := by
  rw [l_int, show (1 : Int32) = nI 1 from rfl, pk_sub_toInt (by omega) (by omega)]; rfl
theorem sh_step {v v1 : Mem} {k q : Nat} (h : ∀ z, z < 160 → v1 12 z = if 40 * k ≤ z ∧ z < 40 * k + q then 0 else v 12 z) : ∀ z, z < 160 → st2 v1 12 (40 * k + q) 0 12 z = if 40 * k ≤ z ∧ z < 40 * k + (q + 1) then 0 else v 12 z := by
  intro z hz
  by_cases e : z = 40 * k + q
  · subst e; rw [st2_same, if_pos (by omega)]
  · rw [st2_at _ _ _ e, h z hz]
    by_cases c : 40 * k ≤ z ∧ z < 40 * k + q
    · rw [if_pos c, if_pos (by omega)]
    · rw [if_neg c, if_neg (by omega)]
