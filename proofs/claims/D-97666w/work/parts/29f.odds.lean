/-! a keeper's odds, counts -/
set_option maxRecDepth 100000
section LR
variable {p : Program} {l : Launch} {e : Env} {R : Room} {s : State} {m : MethodId} {args : Array Value} {below : List Frame} {meth : Method} {c : Code} {H : Heap} {locs : List Loc} {cells slots : Nat} {Q : State → Prop}
variable {cc : ByteArray} {pc nL : Nat} {ls : Array Slot} {rest : List Value} {own : String} {x y : Int64} {a b : Nat}
theorem n_lmul (C : CallFix p m c cc nL s args lw_all own) (hx : x = lN a) (hy : y = lN b) (dec : decode cc pc = .ok (.lmul, 1)) (kk : W p l e R s m args below meth c H locs cells slots Q (F0 m (pc + 1) ls (.long (lN (a * b)) :: rest))) : W p l e R s m args below meth c H locs cells slots Q (F0 m pc ls (.long y :: .long x :: rest)) := by
  refine lv_lmul C.1 C.2.1 dec ?_
  rw [hx, hy, lN_mul]
  exact kk
theorem n_ladd (C : CallFix p m c cc nL s args lw_all own) (hx : x = lN a) (hy : y = lN b) (dec : decode cc pc = .ok (.ladd, 1)) (kk : W p l e R s m args below meth c H locs cells slots Q (F0 m (pc + 1) ls (.long (lN (a + b)) :: rest))) : W p l e R s m args below meth c H locs cells slots Q (F0 m pc ls (.long y :: .long x :: rest)) := by
  refine lv_ladd C.1 C.2.1 dec ?_
  rw [hx, hy, lN_add]
  exact kk
theorem n_ldiv (C : CallFix p m c cc nL s args lw_all own) (hx : x = lN a) (hy : y = lN b) (ha : a < 2 ^ 63) (hb0 : 0 < b) (hb : b < 2 ^ 63) (dec : decode cc pc = .ok (.ldiv, 1)) (kk : W p l e R s m args below meth c H locs cells slots Q (F0 m (pc + 1) ls (.long (lN (a / b)) :: rest))) : W p l e R s m args below meth c H locs cells slots Q (F0 m pc ls (.long y :: .long x :: rest)) := by
  subst hx; subst hy
  refine lv_ldiv C.1 C.2.1 dec (fun h => by have h2 := (pk_lEQ hb (b := 0) (by decide)).mp h; omega) ?_
  rw [pk_lDiv ha hb0 hb]
  exact kk
theorem n_lrem (C : CallFix p m c cc nL s args lw_all own) (hx : x = lN a) (hy : y = lN b) (ha : a < 2 ^ 63) (hb0 : 0 < b) (hb : b < 2 ^ 63) (dec : decode cc pc = .ok (.lrem, 1)) (kk : W p l e R s m args below meth c H locs cells slots Q (F0 m (pc + 1) ls (.long (lN (a % b)) :: rest))) : W p l e R s m args below meth c H locs cells slots Q (F0 m pc ls (.long y :: .long x :: rest)) := by
  subst hx; subst hy
  refine lv_lrem C.1 C.2.1 dec (fun h => by have h2 := (pk_lEQ hb (b := 0) (by decide)).mp h; omega) ?_
  rw [pk_lRem ha hb0 hb]
  exact kk
end LR
def ways (t : Nat → Nat) (n s v : Nat) : Nat → Nat
  | 0 => 1
  | b + 1 => ways t n s v b * (if (lm t n).testBit b then (if s.testBit b then v else 10 - v) else 1)
theorem ways_le {t : Nat → Nat} {n s v : Nat} (hv : v ≤ 10) : ∀ b, ways t n s v b ≤ 10 ^ b
  | 0 => Nat.le_refl _
  | b + 1 => by
    have h := ways_le (t := t) (n := n) (s := s) hv b
    simp only [ways, Nat.pow_succ]
    refine Nat.mul_le_mul h ?_
    (repeat' split) <;> omega
/-- the sum over some liars seen through -/
def smF (l : Nat) (f : Nat → Nat) : Nat → Nat
  | 0 => 0
  | s + 1 => if andn s l = 0 then smF l f s + f s else smF l f s
theorem sm_T {l s : Nat} {f : Nat → Nat} (h : andn s l = 0) : smF l f (s + 1) = smF l f s + f s := by simp only [smF]; rw [if_pos h]
theorem sm_F {l s : Nat} {f : Nat → Nat} (h : andn s l ≠ 0) : smF l f (s + 1) = smF l f s := by simp only [smF]; rw [if_neg h]
theorem sm_le {l B : Nat} {f : Nat → Nat} (hf : ∀ s, f s ≤ B) : ∀ s, smF l f s ≤ B * s
  | 0 => Nat.zero_le _
  | s + 1 => by
    have h1 := sm_le (l := l) hf s
    have h2 := hf s
    rw [Nat.mul_succ]
    simp only [smF]
    split <;> omega
theorem andn_sub_ : ∀ s, s < 64 → ∀ l, l < 64 → andn s l = 0 → ∀ b, b < 6 → s.testBit b = true → l.testBit b = true := by decide +kernel
theorem caught_ok {t : Nat → Nat} {n s : Nat} (hn : n ≤ 6) (hs : s < 64) (h : andn s (lm t n) = 0) : ∀ b, b < 6 → s.testBit b = true → t (6 + 6 * b + 5) = 1 := by
  intro b hb hsb
  have h1 := andn_sub_ s hs (lm t n) (mk_64 _ hn) h b hb hsb
  unfold lm at h1
  rw [mk_bit] at h1
  simp at h1
  exact h1.2
def lct (t : Nat → Nat) (n : Nat) : Nat := cn (fun b => (lm t n).testBit b) 6
theorem lct_le (t : Nat → Nat) (n : Nat) : lct t n ≤ 6 := cn_le _ _
def low (a b w : Nat) : Nat := if w = 0 then a / Nat.gcd b a else b / Nat.gcd b a
def fMean (t : Nat → Nat) (n v b s : Nat) : Nat := ways t n s v n * dS (day t n (t 3) s) b
def fLuck (t : Nat → Nat) (n v b i s : Nat) : Nat := if dP (day t n (t 3) s) i = b then ways t n s v n else 0
theorem fMean_le {t : Nat → Nat} {n v b : Nat} (hn : n ≤ 6) (hw : WT t) (hv : v ≤ 10) (s : Nat) : fMean t n v b s ≤ 3200000000 := by
  have h1 := ways_le (t := t) (n := n) (s := s) hv n
  have h2 := Nat.pow_le_pow_right (n := 10) (by omega) hn
  have h3 := (day_ok (law := t 3) (cg := s) hn hw).2.2.2 b
  have h4 : ways t n s v n ≤ 1000000 := by omega
  exact Nat.le_trans (Nat.mul_le_mul h4 h3) (by decide)
theorem fLuck_le {t : Nat → Nat} {n v b i : Nat} (hn : n ≤ 6) (hv : v ≤ 10) (s : Nat) : fLuck t n v b i s ≤ 1000000 := by
  have h1 := ways_le (t := t) (n := n) (s := s) hv n
  have h2 := Nat.pow_le_pow_right (n := 10) (by omega) hn
  unfold fLuck
  split <;> omega
def qMean (t : Nat → Nat) (n : Nat) (v b a : Int32) : Int64 := if inI v 0 10 ∧ isB n b ∧ inI a 0 1 then lN (low (smF (lm t n) (fMean t n (nn v) (nn b)) (2 ^ n)) (10 ^ lct t n) (nn a)) else -1
def qLuck (t : Nat → Nat) (n : Nat) (v b i a : Int32) : Int64 := if inI v 0 10 ∧ isB n b ∧ isB n i ∧ inI a 0 1 then lN (low (smF (lm t n) (fLuck t n (nn v) (nn b) (nn i)) (2 ^ n)) (10 ^ lct t n) (nn a)) else -1
theorem ten_le {k : Nat} (h : k ≤ 6) : 10 ^ k ≤ 1000000 := by
  have := Nat.pow_le_pow_right (n := 10) (by omega) h
  omega
def qCount (t : Nat → Nat) (n sm tp : Nat) (k0 k1 l0 z0 : Int32) (a : Int32) : Int32 := if a = 0 then nI (cn (fun b => decide (t (6 + 6 * b) = 0)) n) else if a = 1 then nI sm else if a = 2 then k0 + k1 else if a = 3 then nI tp else if a = 4 then (if l0 = -4 then -4 else z0) else if a = 5 then nI (lct t n) else -1
theorem above_eq {t : Nat → Nat} {n : Nat} : cn (fun b => (2 ^ n - 1).testBit b && decide (t (6 + 6 * b) = 0)) n = cn (fun b => decide (t (6 + 6 * b) = 0)) n := cn_congr n (fun b hb => by rw [Nat.testBit_two_pow_sub_one]; simp [hb])
theorem andn_le (a b : Nat) : andn a b ≤ a := Nat.and_le_left
