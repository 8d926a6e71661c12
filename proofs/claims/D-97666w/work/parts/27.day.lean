/-! a day, plainly -/
set_option maxRecDepth 100000
/-- what cargo a boat tells -/
def ct (t : Nat → Nat) (cg b : Nat) : Nat := if t (6 + 6 * b + 5) = 0 then t (6 + 6 * b + 1) else if cg.testBit b then 4 else 0
theorem ct_le {t : Nat → Nat} (h : TB t) (cg b : Nat) : ct t cg b ≤ 200 := by have := h (6 + 6 * b + 1); unfold ct; split <;> (try split) <;> omega
def lcF (S : Nat → Bool) (key : Nat → Nat) : Nat → Nat × Nat
  | 0 => (1000000000, 0)
  | b + 1 => if S b then (if key b < (lcF S key b).1 then (key b, 2 ^ b) else if key b = (lcF S key b).1 then ((lcF S key b).1, (lcF S key b).2 + 2 ^ b) else lcF S key b) else lcF S key b
theorem lcF_lt (S : Nat → Bool) (key : Nat → Nat) : ∀ b, (lcF S key b).2 < 2 ^ b
  | 0 => by simp [lcF]
  | b + 1 => by
    have ih := lcF_lt S key b
    simp only [lcF, Nat.pow_succ]
    split
    · split
      · show 2 ^ b < _; omega
      · split
        · show (lcF S key b).2 + 2 ^ b < _; omega
        · omega
    · omega
theorem lcF_le (S : Nat → Bool) (key : Nat → Nat) (hk : ∀ b, key b ≤ 1000000000) : ∀ b, (lcF S key b).1 ≤ 1000000000
  | 0 => by simp [lcF]
  | b + 1 => by
    have ih := lcF_le S key hk b
    simp only [lcF]
    split
    · split
      · exact hk b
      · split
        · exact ih
        · exact ih
    · exact ih
theorem ea_lt (S : Nat → Bool) (key : Nat → Nat) : ∀ b, ea S key b = 100 ∨ ea S key b < b
  | 0 => Or.inl rfl
  | b + 1 => by
    have ih := ea_lt S key b
    simp only [ea]
    split <;> omega
theorem ea_T {S : Nat → Bool} {key : Nat → Nat} {b : Nat} (h : S b = true) (h2 : ea S key b = 100 ∨ key b < key (ea S key b)) : b = ea S key (b + 1) := by
  simp only [ea]; rw [if_pos ⟨h, h2⟩]
theorem ea_F {S : Nat → Bool} {key : Nat → Nat} {b : Nat} (h : S b = false ∨ ¬ (ea S key b = 100 ∨ key b < key (ea S key b))) : ea S key b = ea S key (b + 1) := by
  simp only [ea]; rw [if_neg]
  intro q
  rcases h with h | h
  · rw [q.1] at h; cases h
  · exact h q.2
theorem enc_nI {f : Nat} (h : f ≠ 100) : enc f = nI f := by simp [enc, h]
theorem enc_100 {f : Nat} (h : f = 100 ∨ f < 100) (e : enc f = -4) : f = 100 := by
  rcases h with h | h
  · exact h
  · exfalso
    rw [enc_nI (by omega)] at e
    have h1 := congrArg Int32.toInt e
    rw [nI_toInt (by omega)] at h1
    have h2 : (-4 : Int32).toInt = -4 := by decide
    omega
theorem enc_ne {f : Nat} (e : enc f ≠ -4) : f ≠ 100 := by
  intro h; exact e (by simp [enc, h])
/-- a day: (passed many, free, ready, the last one's side (2: none), how many in a row, water, turned), who passed, when through, how long it stood -/
abbrev Day : Type := (Nat × Nat × Nat × Nat × Nat × Nat × Nat) × (Nat → Nat) × (Nat → Nat) × (Nat → Nat)
abbrev dK (d : Day) : Nat := d.1.1
abbrev dF (d : Day) : Nat := d.1.2.1
abbrev dR (d : Day) : Nat := d.1.2.2.1
abbrev dLa (d : Day) : Nat := d.1.2.2.2.1
abbrev dRo (d : Day) : Nat := d.1.2.2.2.2.1
abbrev dW (d : Day) : Nat := d.1.2.2.2.2.2.1
abbrev dT (d : Day) : Nat := d.1.2.2.2.2.2.2
abbrev dP (d : Day) : Nat → Nat := d.2.1
abbrev dD (d : Day) : Nat → Nat := d.2.2.1
abbrev dS (d : Day) : Nat → Nat := d.2.2.2
def up (f : Nat → Nat) (i x : Nat) : Nat → Nat := fun j => if j = i then x else f j
def dOpen (t : Nat → Nat) : Day := ((0, 0, t 2, 2, 0, 0, 0), fun _ => 0, fun _ => 0, fun _ => 0)
/-- when the lock begins with b, free from f on -/
def dBeg (t : Nat → Nat) (d : Day) (b : Nat) : Nat := if t (6 + 6 * b + 2) < (if t (6 + 6 * b) = dR d then dF d else dF d + t 1) then (if t (6 + 6 * b) = dR d then dF d else dF d + t 1) else t (6 + 6 * b + 2)
def dLet (t : Nat → Nat) (d : Day) (b : Nat) : Day :=
  ((dK d + 1, dBeg t d b + t 0, 1 - t (6 + 6 * b), t (6 + 6 * b), if t (6 + 6 * b) = dLa d then dRo d + 1 else 1, dW d + (if t (6 + 6 * b) ≠ dR d ∧ t (6 + 6 * b) = 1 then 1 else 0) + (if t (6 + 6 * b) = 0 then 1 else 0), dT d + (if t (6 + 6 * b) ≠ dR d then 1 else 0)),
   up (dP d) (dK d) b, up (dD d) b (dBeg t d b + t 0), up (dS d) b (dBeg t d b - t (6 + 6 * b + 2)))
def dSet (d : Day) (f : Nat) : Day := ((dK d, f, dR d, dLa d, dRo d, dW d, dT d), dP d, dD d, dS d)
/-- the least count of those in L -/
def mnc (t : Nat → Nat) (L : Nat) : Nat → Nat
  | 0 => 1000000
  | b + 1 => if L.testBit b then (if cnt t b < mnc t L b then cnt t b else mnc t L b) else mnc t L b
def dFree (t : Nat → Nat) (n L : Nat) (d : Day) : Nat := if dF d < mnc t L n then mnc t L n else dF d
/-- those that count at f -/
def dC (t : Nat → Nat) (L f : Nat) (b : Nat) : Bool := L.testBit b && decide (cnt t b ≤ f)
/-- whose side it is -/
def dWant (t : Nat → Nat) (n law : Nat) (S : Nat → Bool) (d : Day) : Nat :=
  if law = 2 then (if dLa d = 2 then dR d else if 2 ≤ dRo d then 1 - dLa d else dLa d)
  else if law = 4 then (if cn (fun b => S b && decide (t (6 + 6 * b) = 0)) n = cn (fun b => S b && decide (t (6 + 6 * b) = 1)) n then dR d else if cn (fun b => S b && decide (t (6 + 6 * b) = 1)) n < cn (fun b => S b && decide (t (6 + 6 * b) = 0)) n then 0 else 1)
  else dR d
def dRank (t : Nat → Nat) (n law cg : Nat) (S : Nat → Bool) (d : Day) (b : Nat) : Nat :=
  if law = 0 then 0 else if law = 3 then (if cg.testBit b then 4 else if t (6 + 6 * b + 5) = 1 then 0 else t (6 + 6 * b + 1)) else if t (6 + 6 * b) = dWant t n law S d then 0 else 1
def dPick (t : Nat → Nat) (n law cg L : Nat) (d : Day) : Nat :=
  ea (dC t L (dFree t n L d)) (fun b => 1000 * dRank t n law cg (dC t L (dFree t n L d)) d b + cnt t b) n
def dStep (t : Nat → Nat) (n law cg : Nat) (q : Nat × Day) : Nat × Day :=
  (clr q.1 (dPick t n law cg q.1 q.2), dLet t (dSet q.2 (dFree t n q.1 q.2)) (dPick t n law cg q.1 q.2))
def dIt (t : Nat → Nat) (n law cg : Nat) : Nat → Nat × Day
  | 0 => (2 ^ n - 1, dOpen t)
  | i + 1 => dStep t n law cg (dIt t n law cg i)
/-- the day by a law, those of cg seen through -/
def day (t : Nat → Nat) (n law cg : Nat) : Day := (dIt t n law cg n).2
/-- nothing but the day's own places has changed -/
def offD (v v' : Mem) : Prop := (∀ k, k < 21 ∨ 25 < k → v' 0 k = v 0 k) ∧ ∀ j, j ≠ 0 → j ≠ 6 → j ≠ 7 → j ≠ 8 → v' j = v j
theorem offD.rf (v : Mem) : offD v v := ⟨fun _ _ => rfl, fun _ _ _ _ _ => rfl⟩
theorem offD.tr {a b c : Mem} (h : offD a b) (g : offD b c) : offD a c := ⟨fun k hk => (g.1 k hk).trans (h.1 k hk), fun j h1 h2 h3 h4 => (g.2 j h1 h2 h3 h4).trans (h.2 j h1 h2 h3 h4)⟩
theorem offD.at {a b : Mem} (h : offD a b) {t : Nat → Nat} (g : AtV a t) : AtV b t := fun k hk => by rw [h.2 2 (by decide) (by decide) (by decide) (by decide)]; exact g k hk
/-- the reference holds the day d; L: who hasn't passed yet -/
def DM (v : Mem) (n L : Nat) (d : Day) : Prop := v 0 21 = nI (dK d) ∧ v 0 22 = nI (dF d) ∧ v 0 23 = nI (dR d) ∧ v 0 24 = nI (dW d) ∧ v 0 25 = nI (dT d) ∧ (∀ i, i < dK d → v 6 i = nI (dP d i)) ∧ ∀ b, b < n → L.testBit b = false → v 7 b = nI (dD d b) ∧ v 8 b = nI (dS d b)
/-- what is told is well -/
def WT (t : Nat → Nat) : Prop := TB t ∧ 1 ≤ t 0 ∧ t 2 ≤ 1 ∧ t 3 ≤ 4 ∧ t 5 ≤ 1 ∧ ∀ b, b < 6 → t (6 + 6 * b) ≤ 1 ∧ t (6 + 6 * b + 1) ≤ 3 ∧ t (6 + 6 * b + 3) ≤ 9 ∧ t (6 + 6 * b + 5) ≤ 1
def cost (t s : Nat → Nat) : Nat → Nat
  | 0 => 0
  | b + 1 => cost t s b + s b * t (6 + 6 * b + 3)
def lng (s : Nat → Nat) : Nat → Nat
  | 0 => 0
  | b + 1 => if lng s b < s b then s b else lng s b
/-- the reference's 'preferred', 'taken' -/
def prefM (t : Nat → Nat) (n L sd : Nat) : Nat := if mk (fun b => L.testBit b && decide (t (6 + 6 * b) = sd)) n = 0 then L else mk (fun b => L.testBit b && decide (t (6 + 6 * b) = sd)) n
def tkM (t : Nat → Nat) (n law cg L : Nat) (d : Day) : Nat :=
  if law = 3 then (lcF (fun b => L.testBit b) (ct t cg) n).2 else if law = 0 then L else prefM t n L (dWant t n law (fun b => L.testBit b) d)
/-- who passed last, and ahead of that -/
def DI (t : Nat → Nat) (d : Day) : Prop := (dK d = 0 → dLa d = 2 ∧ dR d = t 2) ∧ (∀ k, dK d = k + 1 → dLa d = t (6 + 6 * dP d k)) ∧ (dK d = 1 → dRo d = 1) ∧ ∀ k, dK d = k + 2 → (2 ≤ dRo d ↔ t (6 + 6 * dP d k) = dLa d)
theorem sw_cases (x : Int32) (hi : Nat) : (x.toInt < 0 ∨ (hi : Int) < x.toInt) ∨ ∃ k : Nat, k ≤ hi ∧ x = nI k := by
  by_cases h : x.toInt < 0 ∨ (hi : Int) < x.toInt
  · exact Or.inl h
  · refine Or.inr ?_
    obtain ⟨k, h1, h2⟩ := ex_nI (x := x) (n := hi + 1) (by omega) (by omega)
    exact ⟨k, by omega, h2⟩
theorem offD.putF {a b : Mem} {k : Nat} {x : Int32} (h : offD a b) (hk : 21 ≤ k ∧ k ≤ 25) : offD a (st2 b 0 k x) :=
  ⟨fun q hq => by rw [st2_at _ _ _ (by omega)]; exact h.1 q hq, fun j h1 h2 h3 h4 => by funext q; rw [st2_cell _ _ _ h1, h.2 j h1 h2 h3 h4]⟩
theorem offD.putA {a b : Mem} {j k : Nat} {x : Int32} (h : offD a b) (hj : j = 6 ∨ j = 7 ∨ j = 8) : offD a (st2 b j k x) :=
  ⟨fun q hq => by rw [st2_cell _ _ _ (by omega)]; exact h.1 q hq, fun i h1 h2 h3 h4 => by funext q; rw [st2_cell _ _ _ (by omega), h.2 i h1 h2 h3 h4]⟩
theorem AtV.put {v : Mem} {t : Nat → Nat} {j k : Nat} {x : Int32} (h : AtV v t) (hj : j ≠ 2) : AtV (st2 v j k x) t := fun q hq => by rw [st2_cell _ _ _ (Ne.symm hj)]; exact h q hq
/-- what 'lets' leaves -/
def LtP (t : Nat → Nat) (d : Day) (b : Nat) (v v' : Mem) : Prop := offD v v' ∧ v' 0 21 = nI (dK (dLet t d b)) ∧ v' 0 22 = nI (dF (dLet t d b)) ∧ v' 0 23 = nI (dR (dLet t d b)) ∧ v' 0 24 = nI (dW (dLet t d b)) ∧ v' 0 25 = nI (dT (dLet t d b)) ∧ (∀ i, v' 6 i = if i = dK d then nI b else v 6 i) ∧ (∀ i, v' 7 i = if i = b then nI (dBeg t d b + t 0) else v 7 i) ∧ ∀ i, v' 8 i = if i = b then nI (dBeg t d b - t (6 + 6 * b + 2)) else v 8 i
theorem lcF_N {S : Nat → Bool} {key : Nat → Nat} {b : Nat} (h : S b = false) : lcF S key (b + 1) = lcF S key b := by simp [lcF, h]
theorem lcF_L {S : Nat → Bool} {key : Nat → Nat} {b : Nat} (h : S b = true) (h2 : key b < (lcF S key b).1) : lcF S key (b + 1) = (key b, 2 ^ b) := by simp [lcF, h, h2]
theorem lcF_E {S : Nat → Bool} {key : Nat → Nat} {b : Nat} (h : S b = true) (h2 : key b = (lcF S key b).1) : lcF S key (b + 1) = ((lcF S key b).1, (lcF S key b).2 + 2 ^ b) := by
  have h3 : ¬ key b < (lcF S key b).1 := by omega
  simp only [lcF, h, if_neg h3, if_pos h2, if_true]
theorem lcF_G {S : Nat → Bool} {key : Nat → Nat} {b : Nat} (h : S b = true) (h2 : (lcF S key b).1 < key b) : lcF S key (b + 1) = lcF S key b := by
  have h3 : ¬ key b < (lcF S key b).1 := by omega
  have h4 : ¬ key b = (lcF S key b).1 := by omega
  simp only [lcF, h, if_neg h3, if_neg h4, if_true]
