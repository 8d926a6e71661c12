/-! Math.max, Math.min -/
set_option maxRecDepth 100000
section MM
variable {p : Program} {l : Launch} {e : Env} {D : Nat} {s : State} {m : MethodId} {args : Array Value} {below : List Frame} {meth : Method} {c : Code} {H : Heap} {locs : List Loc} {Q : State → Prop}
variable {cc : ByteArray} {pc nL : Nat} {ls : Array Slot} {rest : List Value} {own : String} {x y : Int32} {a b idx : Nat}
def MaxL (own : String) (idx : Nat) : Prop := Cond.methodLink own idx Lib.Math.max.name ∈ lw_all
def MinL (own : String) (idx : Nat) : Prop := Cond.methodLink own idx Lib.Math.min.name ∈ lw_all
theorem x_maxI (C : CallFix p m c cc nL s args lw_all own) (hl : ls.size = nL) (hD : 1 ≤ D) (hw : (rest.map fun v => v.category).sum ≤ 8) (L : MaxL own idx) {z : Int32} (hz : (if x.toInt < y.toInt then y else x) = z) (dec : decode cc pc = .ok (.invokestatic idx, 3)) (kk : W p l e (rmD D 0 0) s m args below meth c H locs 0 0 Q (F0 m (pc + 3) ls (.int z :: rest))) : W p l e (rmD D 0 0) s m args below meth c H locs 0 0 Q (F0 m pc ls (.int y :: .int x :: rest)) := by
  refine va_mmax C.1 C.2.1 (C.2.2.1.trans hl.symm) C.2.2.2.1 (C.2.2.2.2 _ L) (C.2.2.2.2 _ q398) (C.2.2.2.2 _ q99) (C.2.2.2.2 _ q399) hD (by simp only [rmD]; omega) (Nat.zero_le _) (Nat.zero_le _) dec ?_
  have e1 : (if x < y then y else x) = z := by
    rw [← hz]
    by_cases h : x < y
    · rw [if_pos h, if_pos (lt_int h)]
    · rw [if_neg h, if_neg (by have := nlt_int h; omega)]
  rw [e1]
  exact kk
theorem x_minI (C : CallFix p m c cc nL s args lw_all own) (hl : ls.size = nL) (hD : 1 ≤ D) (hw : (rest.map fun v => v.category).sum ≤ 8) (L : MinL own idx) {z : Int32} (hz : (if y.toInt < x.toInt then y else x) = z) (dec : decode cc pc = .ok (.invokestatic idx, 3)) (kk : W p l e (rmD D 0 0) s m args below meth c H locs 0 0 Q (F0 m (pc + 3) ls (.int z :: rest))) : W p l e (rmD D 0 0) s m args below meth c H locs 0 0 Q (F0 m pc ls (.int y :: .int x :: rest)) := by
  refine va_mmin C.1 C.2.1 (C.2.2.1.trans hl.symm) C.2.2.2.1 (C.2.2.2.2 _ L) (C.2.2.2.2 _ q479) (C.2.2.2.2 _ q99) (C.2.2.2.2 _ q480) hD (by simp only [rmD]; omega) (Nat.zero_le _) (Nat.zero_le _) dec ?_
  have e1 : (if y < x then y else x) = z := by
    rw [← hz]
    by_cases h : y < x
    · rw [if_pos h, if_pos (lt_int h)]
    · rw [if_neg h, if_neg (by have := nlt_int h; omega)]
  rw [e1]
  exact kk
theorem x_maxN (C : CallFix p m c cc nL s args lw_all own) (hx : x = nI a) (hy : y = nI b) (ha : a < 2147483648) (hb : b < 2147483648) (hl : ls.size = nL) (hD : 1 ≤ D) (hw : (rest.map fun v => v.category).sum ≤ 8) (L : MaxL own idx) (dec : decode cc pc = .ok (.invokestatic idx, 3)) (kk : W p l e (rmD D 0 0) s m args below meth c H locs 0 0 Q (F0 m (pc + 3) ls (.int (nI (if a < b then b else a)) :: rest))) : W p l e (rmD D 0 0) s m args below meth c H locs 0 0 Q (F0 m pc ls (.int y :: .int x :: rest)) := by
  refine x_maxI C hl hD hw L (z := nI (if a < b then b else a)) ?_ dec kk
  rw [hx, hy, nI_toInt ha, nI_toInt hb]
  by_cases h : a < b
  · rw [if_pos (by omega), if_pos h]
  · rw [if_neg (by omega), if_neg h]
theorem x_minN (C : CallFix p m c cc nL s args lw_all own) (hx : x = nI a) (hy : y = nI b) (ha : a < 2147483648) (hb : b < 2147483648) (hl : ls.size = nL) (hD : 1 ≤ D) (hw : (rest.map fun v => v.category).sum ≤ 8) (L : MinL own idx) (dec : decode cc pc = .ok (.invokestatic idx, 3)) (kk : W p l e (rmD D 0 0) s m args below meth c H locs 0 0 Q (F0 m (pc + 3) ls (.int (nI (if b < a then b else a)) :: rest))) : W p l e (rmD D 0 0) s m args below meth c H locs 0 0 Q (F0 m pc ls (.int y :: .int x :: rest)) := by
  refine x_minI C hl hD hw L (z := nI (if b < a then b else a)) ?_ dec kk
  rw [hx, hy, nI_toInt ha, nI_toInt hb]
  by_cases h : b < a
  · rw [if_pos (by omega), if_pos h]
  · rw [if_neg (by omega), if_neg h]
theorem mxL_X0 : MaxL RX0 144 := q481
theorem mnL_X0 : MinL RX0 161 := q478
theorem mxL_X1 : MaxL RX1 33 := q427
theorem mxL_X6 : MaxL RX6 123 := q397
end MM
