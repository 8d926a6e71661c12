/-! what is asked, plainly -/
set_option maxRecDepth 100000
abbrev nn (a : Int32) : Nat := a.toNatClampNeg
theorem nn_nI {k : Nat} (h : k < 2147483648) : nn (nI k) = k := nI_clamp h
/-- a boat's number -/
abbrev isB (n : Nat) (b : Int32) : Prop := 0 ≤ b.toInt ∧ b.toInt < n
abbrev inI (a : Int32) (lo hi : Int) : Prop := lo ≤ a.toInt ∧ a.toInt ≤ hi
theorem isB_nI {n b : Nat} (hb : b < n) (hn : n ≤ 6) : isB n (nI b) := by unfold isB; rw [nI_toInt (by omega)]; omega
theorem inI_nI {k : Nat} {lo hi : Int} (h1 : lo ≤ k) (h2 : k ≤ hi) (hk : k < 2147483648) : inI (nI k) lo hi := by unfold inI; rw [nI_toInt hk]; omega
theorem in_t {a : Int32} {lo hi : Int64} {l r : Int} (h : lo.toInt ≤ a.toInt64.toInt ∧ a.toInt64.toInt ≤ hi.toInt) (hl : lo.toInt = l) (hr : hi.toInt = r) : l ≤ a.toInt ∧ a.toInt ≤ r := by
  rw [l_int] at h; omega
theorem in_f {a : Int32} {lo hi : Int64} {l r : Int} (h : a.toInt64.toInt < lo.toInt ∨ hi.toInt < a.toInt64.toInt) (hl : lo.toInt = l) (hr : hi.toInt = r) : a.toInt < l ∨ r < a.toInt := by
  rw [l_int] at h; omega
theorem nI_m1 {n : Nat} (h : n ≤ 6) : (nI n - 1).toInt64.toInt = (n : Int) - 1 := by
  rw [l_int, show (1 : Int32) = nI 1 from rfl, pk_sub_toInt (by omega) (by omega)]; rfl
/-- the row 'st' holds t -/
def StV (v : Mem) (t : Nat → Nat) : Prop := ∀ k, k < 42 → v 1 k = nI (t k)
/-- what lasts in the reference hasn't changed -/
def perM (v v' : Mem) : Prop := (∀ j, j = 1 ∨ j = 3 ∨ j = 5 ∨ j = 10 ∨ j = 11 ∨ j = 12 → v' j = v j) ∧ ∀ k, k = 3 ∨ k = 10 ∨ k = 15 ∨ k = 30 → v' 0 k = v 0 k
theorem perM.rf (v : Mem) : perM v v := ⟨fun _ _ => rfl, fun _ _ => rfl⟩
theorem perM.tr {a b c : Mem} (h : perM a b) (g : perM b c) : perM a c := ⟨fun j hj => (g.1 j hj).trans (h.1 j hj), fun k hk => (g.2 k hk).trans (h.2 k hk)⟩
theorem offD.per {a b : Mem} (h : offD a b) : perM a b := ⟨fun j hj => h.2 j (by omega) (by omega) (by omega) (by omega), fun k hk => h.1 k (by omega)⟩
theorem perM.st {a b : Mem} (h : perM a b) {t : Nat → Nat} (g : StV a t) : StV b t := fun k hk => by rw [h.1 1 (by omega)]; exact g k hk
theorem perM.n {a b : Mem} (h : perM a b) {n : Nat} (g : a 0 3 = nI n) : b 0 3 = nI n := by rw [h.2 3 (by omega)]; exact g
theorem perM.putA {a b : Mem} {j k : Nat} {x : Int32} (h : perM a b) (hj : j = 2 ∨ j = 4 ∨ j = 6 ∨ j = 7 ∨ j = 8 ∨ j = 9 ∨ j = 13) : perM a (st2 b j k x) :=
  ⟨fun i hi => by funext q; rw [st2_cell _ _ _ (by omega), h.1 i hi], fun q hq => by rw [st2_cell _ _ _ (by omega)]; exact h.2 q hq⟩
/-- what 'starts' leaves -/
def SP (v v' : Mem) : Prop := (∀ k, k < 55 → v' 2 k = v 1 k) ∧ v' 0 17 = nI 0 ∧ (∀ k, k ≠ 17 → v' 0 k = v 0 k) ∧ ∀ j, j ≠ 0 → j ≠ 2 → v' j = v j
theorem SP.per {a b : Mem} (h : SP a b) : perM a b := ⟨fun j hj => h.2.2.2 j (by omega) (by omega), fun k hk => h.2.2.1 k (by omega)⟩
theorem SP.at {a b : Mem} (h : SP a b) {t : Nat → Nat} (g : StV a t) : AtV b t := fun k hk => by rw [h.1 k (by omega)]; exact g k hk
theorem up_ne (t : Nat → Nat) {k x q : Nat} (h : q ≠ k) : up t k x q = t q := by unfold up; rw [if_neg h]
theorem up_eq (t : Nat → Nat) (k x : Nat) : up t k x k = x := by unfold up; rw [if_pos rfl]
theorem AtV.up {v : Mem} {t : Nat → Nat} {k x : Nat} (h : AtV v t) : AtV (st2 v 2 k (nI x)) (up t k x) := fun q hq => by
  by_cases e : q = k
  · subst e; rw [st2_same, up_eq]
  · rw [st2_at _ _ _ e, up_ne _ e]; exact h q hq
theorem StV.up {v : Mem} {t : Nat → Nat} {k x : Nat} (h : StV v t) : StV (st2 v 1 k (nI x)) (up t k x) := fun q hq => by
  by_cases e : q = k
  · subst e; rw [st2_same, up_eq]
  · rw [st2_at _ _ _ e, up_ne _ e]; exact h q hq
theorem TB.up {t : Nat → Nat} {k x : Nat} (h : TB t) (hx : x ≤ 200) : TB (up t k x) := fun q => by
  by_cases e : q = k
  · subst e; rw [up_eq]; exact hx
  · rw [up_ne _ e]; exact h q
/-- the liars, as bits -/
def lm (t : Nat → Nat) (n : Nat) : Nat := mk (fun b => decide (t (6 + 6 * b + 5) = 1)) n
theorem shl_c_ : ∀ c, c < 2 → ∀ b, b < 8 → nI c <<< (nI b &&& 31) = nI (c * 2 ^ b) := by decide +kernel
theorem shl_c {c b : Nat} (hc : c ≤ 1) (hb : b < 8) : nI c <<< (nI b &&& 31) = nI (c * 2 ^ b) := shl_c_ c (by omega) b hb
theorem or_c {x c b : Nat} (hx : x < 2 ^ b) (hc : c ≤ 1) : nI x ||| nI (c * 2 ^ b) = nI (x + c * 2 ^ b) := by
  rcases (by omega : c = 0 ∨ c = 1) with h | h
  · subst h; rw [Nat.zero_mul, show nI 0 = 0 from rfl, or_0]; rfl
  · subst h; rw [Nat.one_mul, or_sum hx]
def tellN (t : Nat → Nat) (n : Nat) (d : Day) (k : Nat) : Nat := if k = 0 then cost t (dS d) n else if k = 1 then lng (dS d) n else if k = 2 then dW d else if k = 3 then (if n = 0 then 0 else dF d) else dT d
/-- the least of some, and the first where it stands -/
def am (f : Nat → Nat) (big : Nat) : Nat → Nat × Nat
  | 0 => (0, big)
  | i + 1 => if f i < (am f big i).2 then (i, f i) else am f big i
theorem am_T {f : Nat → Nat} {big i : Nat} (h : f i < (am f big i).2) : am f big (i + 1) = (i, f i) := by simp only [am]; rw [if_pos h]
theorem am_F {f : Nat → Nat} {big i : Nat} (h : (am f big i).2 ≤ f i) : am f big (i + 1) = am f big i := by simp only [am]; rw [if_neg (by omega)]
theorem am_big {f : Nat → Nat} {a b : Nat} (ha : f 0 < a) (hb : f 0 < b) : ∀ i, am f a (i + 1) = am f b (i + 1)
  | 0 => by rw [am_T (by exact ha), am_T (by exact hb)]
  | i + 1 => by
    have ih := am_big ha hb i
    show (if f (i + 1) < (am f a (i + 1)).2 then _ else _) = (if f (i + 1) < (am f b (i + 1)).2 then _ else _)
    rw [ih]
theorem am_le {f : Nat → Nat} {big B : Nat} (hB : big ≤ B) (hf : ∀ i, f i ≤ B) : ∀ i, (am f big i).2 ≤ B
  | 0 => hB
  | i + 1 => by
    have := am_le hB hf i
    simp only [am]
    split
    · exact hf i
    · exact this
def qRule (t : Nat → Nat) (n : Nat) (a : Int32) : Int32 := if inI a 0 5 then nI (t (nn a)) else if a = 6 then nI n else if a = 7 then nI (lm t n) else -1
def qBoat (t : Nat → Nat) (n : Nat) (b a : Int32) : Int32 := if isB n b ∧ inI a 0 6 then (if a.toInt < 6 then nI (t (6 + 6 * nn b + nn a)) else nI (cnt t (nn b))) else -1
def qPasses (t : Nat → Nat) (n : Nat) (b : Int32) : Int32 := if isB n b then nI (dP (day t n (t 3) 0) (nn b)) else -1
def qThrough (t : Nat → Nat) (n : Nat) (b : Int32) : Int32 := if isB n b then nI (dD (day t n (t 3) 0) (nn b)) else -1
def qStood (t : Nat → Nat) (n : Nat) (b : Int32) : Int32 := if isB n b then nI (dS (day t n (t 3) 0) (nn b)) else -1
def qDay (t : Nat → Nat) (n : Nat) (a : Int32) : Int32 := if inI a 0 4 then nI (tellN t n (day t n (t 3) 0) (nn a)) else -1
def qTable (t : Nat → Nat) (n : Nat) (l a : Int32) : Int32 := if inI l 0 4 ∧ inI a 0 4 then nI (tellN t n (day t n (nn l) 0) (nn a)) else -1
def qBest (t : Nat → Nat) (n : Nat) (a : Int32) : Int32 := if inI a 0 4 then nI (am (fun l => tellN t n (day t n l 0) (nn a)) 1000000 5).1 else -1
def qFirsts (t : Nat → Nat) (n : Nat) (b : Int32) : Int32 := if isB n b then nI (mk (fun l => decide (dP (day t n l 0) 0 = nn b)) 5) else -1
theorem cnt_3 {t : Nat → Nat} {a b : Nat} : cnt (up t 3 a) b = cnt t b := by
  unfold cnt
  rw [up_ne t (by omega), up_ne t (by omega), up_ne t (by omega), up_ne t (by omega)]
theorem mnc_3 {t : Nat → Nat} {a L : Nat} : ∀ n, mnc (up t 3 a) L n = mnc t L n
  | 0 => rfl
  | n + 1 => by simp only [mnc, mnc_3 n, cnt_3]
theorem dFree_3 {t : Nat → Nat} {a L n : Nat} {d : Day} : dFree (up t 3 a) n L d = dFree t n L d := by unfold dFree; rw [mnc_3]
theorem dC_3 {t : Nat → Nat} {a L f : Nat} : dC (up t 3 a) L f = dC t L f := by funext b; unfold dC; rw [cnt_3]
theorem dWant_3 {t : Nat → Nat} {a n law : Nat} {S : Nat → Bool} {d : Day} : dWant (up t 3 a) n law S d = dWant t n law S d := by
  unfold dWant
  have h : ∀ b, up t 3 a (6 + 6 * b) = t (6 + 6 * b) := fun b => up_ne t (by omega)
  simp only [h]
theorem dRank_3 {t : Nat → Nat} {a n law cg : Nat} {S : Nat → Bool} {d : Day} : dRank (up t 3 a) n law cg S d = dRank t n law cg S d := by
  funext b
  unfold dRank
  rw [dWant_3, up_ne t (by omega), up_ne t (by omega), up_ne t (by omega)]
theorem dBeg_3 {t : Nat → Nat} {a b : Nat} {d : Day} : dBeg (up t 3 a) d b = dBeg t d b := by
  unfold dBeg
  rw [up_ne t (by omega), up_ne t (by omega), up_ne t (by omega)]
theorem dLet_3 {t : Nat → Nat} {a b : Nat} {d : Day} : dLet (up t 3 a) d b = dLet t d b := by
  unfold dLet
  rw [dBeg_3, up_ne t (by omega), up_ne t (by omega), up_ne t (by omega)]
theorem dStep_3 {t : Nat → Nat} {a n law cg : Nat} {q : Nat × Day} : dStep (up t 3 a) n law cg q = dStep t n law cg q := by
  unfold dStep dPick
  simp only [dFree_3, dC_3, dRank_3, dLet_3, cnt_3]
theorem dIt_3 {t : Nat → Nat} {a n law cg : Nat} : ∀ i, dIt (up t 3 a) n law cg i = dIt t n law cg i
  | 0 => by
    show (2 ^ n - 1, dOpen (up t 3 a)) = (2 ^ n - 1, dOpen t)
    unfold dOpen; rw [up_ne t (by omega)]
  | i + 1 => by
    show dStep (up t 3 a) n law cg _ = dStep t n law cg _
    rw [dIt_3 i, dStep_3]
theorem day_3 {t : Nat → Nat} {a n law cg : Nat} : day (up t 3 a) n law cg = day t n law cg := by unfold day; rw [dIt_3]
theorem cost_up {t s : Nat → Nat} {k x : Nat} (hk : k < 6 ∨ ∀ b, k ≠ 6 + 6 * b + 3) : ∀ n, cost (up t k x) s n = cost t s n
  | 0 => rfl
  | n + 1 => by
    simp only [cost]
    rw [cost_up hk n, up_ne t (by rcases hk with h | h; omega; exact Ne.symm (h n))]
theorem tellN_3 {t : Nat → Nat} {a n k : Nat} {d : Day} : tellN (up t 3 a) n d k = tellN t n d k := by
  unfold tellN; rw [cost_up (Or.inl (by omega))]
theorem WT.law {t : Nat → Nat} {a : Nat} (h : WT t) (ha : a ≤ 4) : WT (up t 3 a) := by
  obtain ⟨h1, h2, h3, h4, h5, h6⟩ := h
  refine ⟨h1.up (by omega), ?_, ?_, ?_, ?_, fun b hb => ?_⟩
  · rw [up_ne t (by omega)]; exact h2
  · rw [up_ne t (by omega)]; exact h3
  · rw [up_eq]; exact ha
  · rw [up_ne t (by omega)]; exact h5
  · rw [up_ne t (by omega), up_ne t (by omega), up_ne t (by omega), up_ne t (by omega)]; exact h6 b hb
/-- the bounds of a whole day -/
theorem day_ok {t : Nat → Nat} {n law cg : Nat} (hn : n ≤ 6) (hw : WT t) : dK (day t n law cg) = n ∧ dF (day t n law cg) ≤ 3200 ∧ (∀ j, j < n → dP (day t n law cg) j < n) ∧ ∀ b, dS (day t n law cg) b ≤ 3200 := by
  obtain ⟨h1, h2, h3, h4, h5, h6, h7, h8, h9, h10⟩ := dIt_ok (law := law) (cg := cg) hn hw n (Nat.le_refl n)
  exact ⟨h4, by unfold day; omega, h9, fun b => by have := h10 b; unfold day; omega⟩
theorem DM.st {v : Mem} {n : Nat} {d : Day} (h : DM v n 0 d) : ∀ b, b < n → v 8 b = nI (dS d b) := fun b hb => (h.2.2.2.2.2.2 b hb (Nat.zero_testBit b)).2
theorem DM.dn {v : Mem} {n : Nat} {d : Day} (h : DM v n 0 d) : ∀ b, b < n → v 7 b = nI (dD d b) := fun b hb => (h.2.2.2.2.2.2 b hb (Nat.zero_testBit b)).1
theorem cp_step {v v1 : Mem} {j i k : Nat} {x : Int32} (hc : ∀ q, q < k → v1 j q = v i q) (hx : x = v i k) : ∀ q, q < k + 1 → st2 v1 j k x j q = v i q := by
  intro q hq
  by_cases e : q = k
  · subst e; rw [st2_same, hx]
  · rw [st2_at _ _ _ e]; exact hc q (by omega)
theorem cp_off {v v1 : Mem} {j k : Nat} {x : Int32} (ho : ∀ i, i ≠ j → v1 i = v i) : ∀ i, i ≠ j → st2 v1 j k x i = v i := by
  intro i hi
  funext q
  rw [st2_cell _ _ _ hi, ho i hi]
theorem SP_of {v v1 : Mem} {k : Nat} (hk : 55 ≤ k) (hc : ∀ q, q < k → v1 2 q = v 1 q) (ho : ∀ i, i ≠ 2 → v1 i = v i) : SP v (st2 v1 0 17 0) := by
  refine ⟨fun q hq => ?_, rfl, fun q hq => ?_, fun j h0 h2 => ?_⟩
  · show v1 2 q = v 1 q; exact hc q (by omega)
  · rw [st2_at _ _ _ hq, ho 0 (by decide)]
  · funext q; rw [st2_cell _ _ _ h0, ho j h2]
