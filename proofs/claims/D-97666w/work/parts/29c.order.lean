/-! who passed when; rows gone through -/
set_option maxRecDepth 100000
def DO (n i : Nat) (q : Nat × Day) : Prop := (∀ b, b < n → q.1.testBit b = false → ∃ j, j < i ∧ dP q.2 j = b) ∧ (∀ j, j < i → q.1.testBit (dP q.2 j) = false) ∧ (∀ j, j < i → dD q.2 (dP q.2 j) ≤ dF q.2) ∧ ∀ j k, j < k → k < i → dD q.2 (dP q.2 j) < dD q.2 (dP q.2 k)
theorem dBeg_ge (t : Nat → Nat) (d : Day) (b : Nat) : dF d ≤ dBeg t d b := by
  unfold dBeg
  (repeat' split) <;> omega
theorem dFree_ge (t : Nat → Nat) (n L : Nat) (d : Day) : dF d ≤ dFree t n L d := by unfold dFree; split <;> omega
/-- one more passes: what is kept of the order -/
theorem DO_let {t : Nat → Nat} {n i L f b : Nat} {d : Day} (hL : L < 64) (hn : n ≤ 6) (hp0 : ∀ j, j < i → dP d j < n) (hb : b < n) (hbL : L.testBit b = true) (hk : dK d = i) (hf : dF d ≤ f) (ht : 1 ≤ t 0) (h : DO n i (L, d)) : DO n (i + 1) (clr L b, dLet t (dSet d f) b) := by
  obtain ⟨h1, h2, h3, h4⟩ := h
  dsimp only at h1 h2 h3 h4
  have hne : ∀ j, j < i → dP d j ≠ b := fun j hj e => by
    have := h2 j hj
    rw [e, hbL] at this; cases this
  have eP : ∀ j, j < i → dP (dLet t (dSet d f) b) j = dP d j := fun j hj => by
    show up (dP d) (dK d) b j = _
    rw [up_ne _ (by omega)]
  have eP2 : dP (dLet t (dSet d f) b) i = b := by
    show up (dP d) (dK d) b i = _
    rw [hk, up_eq]
  have eD : ∀ c, c ≠ b → dD (dLet t (dSet d f) b) c = dD d c := fun c hc => by
    show up (dD d) b _ c = _
    rw [up_ne _ hc]
  have eD2 : dD (dLet t (dSet d f) b) b = dF (dLet t (dSet d f) b) := by
    show up (dD d) b _ b = _
    rw [up_eq]
    rfl
  have hF : dF d < dF (dLet t (dSet d f) b) := by
    have := dBeg_ge t (dSet d f) b
    have e : dF (dSet d f) = f := rfl
    show dF d < dBeg t (dSet d f) b + t 0
    omega
  refine ⟨fun c hc hLc => ?_, fun j hj => ?_, fun j hj => ?_, fun j k hjk hk2 => ?_⟩
  · by_cases e : c = b
    · exact ⟨i, by omega, by show dP (dLet t (dSet d f) b) i = c; rw [eP2, e]⟩
    · have hLc' : (clr L b).testBit c = false := hLc
      rw [clr_bit hL (by omega) (by omega)] at hLc'
      obtain ⟨j, j1, j2⟩ := h1 c hc (by simpa [e] using hLc')
      exact ⟨j, by omega, by show dP (dLet t (dSet d f) b) j = c; rw [eP j j1, j2]⟩
  · show (clr L b).testBit (dP (dLet t (dSet d f) b) j) = false
    by_cases e : j = i
    · rw [e, eP2, clr_bit hL (by omega) (by omega)]; simp
    · have := hp0 j (by omega)
      rw [eP j (by omega), clr_bit hL (by omega) (by omega), h2 j (by omega)]; simp
  · show dD (dLet t (dSet d f) b) (dP (dLet t (dSet d f) b) j) ≤ dF (dLet t (dSet d f) b)
    by_cases e : j = i
    · rw [e, eP2, eD2]; exact Nat.le_refl _
    · rw [eP j (by omega), eD _ (hne j (by omega))]
      have := h3 j (by omega)
      omega
  · show dD (dLet t (dSet d f) b) (dP (dLet t (dSet d f) b) j) < dD (dLet t (dSet d f) b) (dP (dLet t (dSet d f) b) k)
    rw [eP j (by omega), eD _ (hne j (by omega))]
    by_cases e : k = i
    · rw [e, eP2, eD2]
      have := h3 j (by omega)
      omega
    · rw [eP k (by omega), eD _ (hne k (by omega))]
      exact h4 j k hjk (by omega)
theorem dIt_do {t : Nat → Nat} {n law cg : Nat} (hn : n ≤ 6) (hw : WT t) : ∀ i, i ≤ n → DO n i (dIt t n law cg i)
  | 0, _ => by
    refine ⟨fun b hb hL => ?_, fun j hj => absurd hj (Nat.not_lt_zero _), fun j hj => absurd hj (Nat.not_lt_zero _), fun j k _ hk => absurd hk (Nat.not_lt_zero _)⟩
    have hL' : (2 ^ n - 1).testBit b = false := hL
    rw [Nat.testBit_two_pow_sub_one] at hL'
    simp [hb] at hL'
  | i + 1, h => by
    have hq := dIt_ok (law := law) (cg := cg) hn hw i (by omega)
    have hs := hq.some (by omega)
    obtain ⟨p1, p2, p3⟩ := dPick_in (law := law) (cg := cg) (d := (dIt t n law cg i).2) hn hw.1 hs
    exact DO_let hq.1 hn hq.2.2.2.2.2.2.2.2.1 p1 p2 hq.2.2.2.1 (dFree_ge _ _ _ _) hw.2.1 (dIt_do hn hw i (by omega))
/-- the whole day's order: everybody passes, later ones are through later -/
theorem day_order {t : Nat → Nat} {n law cg : Nat} (hn : n ≤ 6) (hw : WT t) : (∀ b, b < n → ∃ j, j < n ∧ dP (day t n law cg) j = b) ∧ ∀ j k, j < k → k < n → dD (day t n law cg) (dP (day t n law cg) j) < dD (day t n law cg) (dP (day t n law cg) k) := by
  have h := dIt_do (law := law) (cg := cg) hn hw n (Nat.le_refl n)
  have hq := (dIt_ok (law := law) (cg := cg) hn hw n (Nat.le_refl n)).none rfl
  refine ⟨fun b hb => h.1 b hb (by rw [hq]; exact Nat.zero_testBit b), h.2.2.2⟩
/-- the place where b stands last -/
def plc (p : Nat → Nat) (b : Nat) : Nat → Nat
  | 0 => 100
  | i + 1 => if p i = b then i else plc p b i
theorem plc_lt (p : Nat → Nat) (b : Nat) : ∀ n, plc p b n = 100 ∨ plc p b n < n
  | 0 => Or.inl rfl
  | n + 1 => by
    have := plc_lt p b n
    simp only [plc]
    split <;> omega
theorem plc_eq {p : Nat → Nat} {b j : Nat} : ∀ n, j < n → p j = b → (∀ k, k < n → p k = b → k = j) → plc p b n = j
  | 0, h, _, _ => absurd h (Nat.not_lt_zero _)
  | n + 1, h, hp, hu => by
    simp only [plc]
    by_cases e : p n = b
    · rw [if_pos e]; exact hu n (by omega) e
    · rw [if_neg e]
      have : j ≠ n := fun q => e (by rw [← q]; exact hp)
      exact plc_eq n (by omega) hp (fun k hk => hu k (by omega))
theorem day_place {t : Nat → Nat} {n law cg b : Nat} (hn : n ≤ 6) (hw : WT t) (hb : b < n) : plc (dP (day t n law cg)) b n < n ∧ dP (day t n law cg) (plc (dP (day t n law cg)) b n) = b := by
  obtain ⟨h1, h2⟩ := day_order (law := law) (cg := cg) hn hw
  obtain ⟨j, j1, j2⟩ := h1 b hb
  have : plc (dP (day t n law cg)) b n = j := plc_eq n j1 j2 (fun k hk hkb => by
    rcases Nat.lt_trichotomy k j with q | q | q
    · have := h2 k j q j1; rw [hkb, j2] at this; omega
    · exact q
    · have := h2 j k q hk; rw [hkb, j2] at this; omega)
  rw [this]; exact ⟨j1, j2⟩
theorem day_before {t : Nat → Nat} {n law cg b c : Nat} (hn : n ≤ 6) (hw : WT t) (hb : b < n) (hc : c < n) : plc (dP (day t n law cg)) b n < plc (dP (day t n law cg)) c n ↔ dD (day t n law cg) b < dD (day t n law cg) c := by
  obtain ⟨a1, a2⟩ := day_place (law := law) (cg := cg) hn hw hb
  obtain ⟨b1, b2⟩ := day_place (law := law) (cg := cg) hn hw hc
  obtain ⟨h1, h2⟩ := day_order (law := law) (cg := cg) hn hw
  generalize plc (dP (day t n law cg)) b n = j at a1 a2
  generalize plc (dP (day t n law cg)) c n = k at b1 b2
  constructor
  · intro q
    have := h2 j k q b1
    rw [a2, b2] at this; exact this
  · intro q
    rcases Nat.lt_trichotomy j k with z | z | z
    · exact z
    · rw [z, b2] at a2; rw [a2] at q; omega
    · have := h2 k j z a1
      rw [a2, b2] at this; omega
/-- the first where P holds (100: none) -/
def fv (P : Nat → Bool) : Nat → Nat
  | 0 => 100
  | v + 1 => if fv P v = 100 then (if P v then v else 100) else fv P v
theorem fv_F {P : Nat → Bool} {v : Nat} (h : fv P v = 100) (hP : P v = false) : fv P (v + 1) = 100 := by simp only [fv]; rw [if_pos h, hP]; rfl
theorem fv_T {P : Nat → Bool} {v : Nat} (h : fv P v = 100) (hP : P v = true) : fv P (v + 1) = v := by simp only [fv]; rw [if_pos h, hP]; rfl
theorem fv_stay {P : Nat → Bool} {v : Nat} (h : fv P v ≠ 100) : ∀ k, fv P (v + k) = fv P v
  | 0 => rfl
  | k + 1 => by
    have := fv_stay h k
    show (if fv P (v + k) = 100 then _ else fv P (v + k)) = _
    rw [this, if_neg h]
theorem fv_first {P : Nat → Bool} {v N : Nat} (h : fv P v = 100) (hP : P v = true) (hv : v < N) (h100 : v < 100) : fv P N = v := by
  have h1 := fv_T h hP
  have h2 := fv_stay (P := P) (v := v + 1) (by omega) (N - (v + 1))
  rw [show v + 1 + (N - (v + 1)) = N by omega, h1] at h2
  exact h2
def qBoy (t : Nat → Nat) (n : Nat) (b c : Int32) : Int32 := if isB n b ∧ isB n c ∧ b ≠ c then enc (fv (fun v => decide (dD (day (up t (6 + 6 * nn b + 4) v) n (t 3) 0) (nn b) < dD (day (up t (6 + 6 * nn b + 4) v) n (t 3) 0) (nn c))) 10) else -1
/-- a row gone through -/
def oIt (t row : Nat → Nat) : Nat → Day
  | 0 => dOpen t
  | i + 1 => dLet t (oIt t row i) (row i)
def oL (n : Nat) (row : Nat → Nat) : Nat → Nat
  | 0 => 2 ^ n - 1
  | i + 1 => clr (oL n row i) (row i)
theorem oIt_ok {t row : Nat → Nat} {n : Nat} (hn : n ≤ 6) (hw : WT t) (hr : ∀ i, i < n → row i < 6) : ∀ i, i ≤ n → dK (oIt t row i) = i ∧ dF (oIt t row i) ≤ 200 + 500 * i ∧ dR (oIt t row i) ≤ 1 ∧ (∀ b, dS (oIt t row i) b ≤ 200 + 500 * i) ∧ oL n row i < 64
  | 0, _ => by
    have h64 := pow_le64 hn
    have hp : 1 ≤ 2 ^ n := Nat.one_le_two_pow
    exact ⟨rfl, Nat.zero_le _, hw.2.2.1, fun _ => Nat.zero_le _, by show 2 ^ n - 1 < 64; omega⟩
  | i + 1, h => by
    obtain ⟨h1, h2, h3, h4, h5⟩ := oIt_ok hn hw hr i (by omega)
    have hb := hr i (by omega)
    have hbg := dBeg_le hw.1 (oIt t row i) (row i)
    have ht0 := hw.1 0
    have hbg2 : dBeg t (oIt t row i) (row i) ≤ 400 + 500 * i := by split at hbg <;> omega
    refine ⟨?_, ?_, ?_, fun c => ?_, clr_lt _ h5⟩
    · show dK (oIt t row i) + 1 = i + 1; omega
    · show dBeg t (oIt t row i) (row i) + t 0 ≤ _; omega
    · show 1 - t (6 + 6 * row i) ≤ 1; omega
    · show up (dS (oIt t row i)) (row i) _ c ≤ _
      have := h4 c
      unfold up
      split <;> omega
theorem oL_bit {n : Nat} {row : Nat → Nat} (hn : n ≤ 6) (hr : ∀ i, i < n → row i < 6) : ∀ i, i ≤ n → oL n row i < 64 ∧ ∀ c, c < 6 → ((oL n row i).testBit c = true ↔ (c < n ∧ ∀ j, j < i → row j ≠ c))
  | 0, _ => by
    have h64 := pow_le64 hn
    have hp : 1 ≤ 2 ^ n := Nat.one_le_two_pow
    refine ⟨by show 2 ^ n - 1 < 64; omega, fun c _ => ?_⟩
    show (2 ^ n - 1).testBit c = true ↔ _
    rw [Nat.testBit_two_pow_sub_one]
    simp
  | i + 1, h => by
    obtain ⟨h1, h2⟩ := oL_bit hn hr i (by omega)
    refine ⟨clr_lt _ h1, fun c hc => ?_⟩
    show (clr (oL n row i) (row i)).testBit c = true ↔ _
    rw [clr_bit h1 (hr i (by omega)) hc]
    have h2c := h2 c hc
    constructor
    · intro q
      have q' : (oL n row i).testBit c = true ∧ c ≠ row i := by simpa using q
      obtain ⟨a1, a2⟩ := h2c.mp q'.1
      refine ⟨a1, fun j hj => ?_⟩
      by_cases e : j = i
      · rw [e]; exact Ne.symm q'.2
      · exact a2 j (by omega)
    · rintro ⟨a1, a2⟩
      have : (oL n row i).testBit c = true := h2c.mpr ⟨a1, fun j hj => a2 j (by omega)⟩
      have h3 := a2 i (by omega)
      simp [this, Ne.symm h3]
theorem oL_zero {n : Nat} {row : Nat → Nat} (hn : n ≤ 6) (hr : ∀ i, i < n → row i < 6) (hs : ∀ c, c < n → ∃ j, j < n ∧ row j = c) : oL n row n = 0 := by
  obtain ⟨h1, h2⟩ := oL_bit hn hr n (Nat.le_refl n)
  refine zero64_ _ h1 (fun c hc => ?_)
  cases hb : (oL n row n).testBit c with
  | false => rfl
  | true =>
    obtain ⟨a1, a2⟩ := (h2 c hc).mp hb
    obtain ⟨j, j1, j2⟩ := hs c a1
    exact absurd j2 (a2 j j1)
def swp (b c x : Nat) : Nat := if x = b then c else if x = c then b else x
def qDeal (t : Nat → Nat) (n : Nat) (b c a : Int32) : Int32 := if isB n b ∧ isB n c ∧ b ≠ c ∧ inI a 0 2 then
  10000 + (if a.toInt = 0 then nI (dS (day t n (t 3) 0) (nn b) * t (6 + 6 * nn b + 3)) - nI (dS (oIt t (fun i => swp (nn b) (nn c) (dP (day t n (t 3) 0) i)) n) (nn b) * t (6 + 6 * nn b + 3))
   else if a.toInt = 1 then nI (dS (day t n (t 3) 0) (nn c) * t (6 + 6 * nn c + 3)) - nI (dS (oIt t (fun i => swp (nn b) (nn c) (dP (day t n (t 3) 0) i)) n) (nn c) * t (6 + 6 * nn c + 3))
   else nI (cost t (dS (day t n (t 3) 0)) n) - nI (cost t (dS (oIt t (fun i => swp (nn b) (nn c) (dP (day t n (t 3) 0) i)) n)) n)) else -1
theorem swp_lt {b c x n : Nat} (hb : b < n) (hc : c < n) (hx : x < n) : swp b c x < n := by unfold swp; (repeat' split) <;> omega
theorem swp_onto {t : Nat → Nat} {n law cg b c : Nat} (hn : n ≤ 6) (hw : WT t) (hb : b < n) (hc : c < n) : ∀ x, x < n → ∃ j, j < n ∧ swp b c (dP (day t n law cg) j) = x := by
  intro x hx
  obtain ⟨h1, -⟩ := day_order (law := law) (cg := cg) hn hw
  obtain ⟨j, j1, j2⟩ := h1 (swp b c x) (swp_lt hb hc hx)
  refine ⟨j, j1, ?_⟩
  rw [j2]
  unfold swp
  (repeat' split) <;> omega
theorem dIt_D {t : Nat → Nat} {n law cg : Nat} (hn : n ≤ 6) (hw : WT t) : ∀ i, i ≤ n → ∀ b, dD (dIt t n law cg i).2 b ≤ 200 + 500 * i
  | 0, _, b => Nat.zero_le _
  | i + 1, h, b => by
    have h1 := dIt_D (law := law) (cg := cg) hn hw i (by omega) b
    have h2 := (dIt_ok (law := law) (cg := cg) hn hw (i + 1) h).2.2.2.2.2.2.1
    show up (dD (dIt t n law cg i).2) _ (dF (dIt t n law cg (i + 1)).2) b ≤ _
    unfold up
    split <;> omega
theorem day_D_le {t : Nat → Nat} {n law cg : Nat} (hn : n ≤ 6) (hw : WT t) (b : Nat) : dD (day t n law cg) b ≤ 3200 := by
  have := dIt_D (law := law) (cg := cg) hn hw n (Nat.le_refl n) b
  unfold day; omega
