/-! gains, calm, lies that rest, posts, late ones -/
set_option maxRecDepth 100000
def flip (t : Nat → Nat) (b : Nat) : Nat → Nat := up t (6 + 6 * b + 5) (1 - t (6 + 6 * b + 5))
def gS (t : Nat → Nat) (n law b : Nat) : Nat := dS (day t n law 0) b
theorem WT.boat {t : Nat → Nat} {b k x : Nat} (h : WT t) (hk : k < 6) (hx : x ≤ 200) (h0 : k = 0 → x ≤ 1) (h1 : k = 1 → x ≤ 3) (h3 : k = 3 → x ≤ 9) (h5 : k = 5 → x ≤ 1) : WT (up t (6 + 6 * b + k) x) := by
  obtain ⟨g1, g2, g3, g4, g5, g6⟩ := h
  refine ⟨g1.up hx, ?_, ?_, ?_, ?_, fun c hc => ?_⟩
  · rw [up_ne t (by omega)]; exact g2
  · rw [up_ne t (by omega)]; exact g3
  · rw [up_ne t (by omega)]; exact g4
  · rw [up_ne t (by omega)]; exact g5
  · obtain ⟨a0, a1, a3, a5⟩ := g6 c hc
    refine ⟨?_, ?_, ?_, ?_⟩
    · by_cases e : 6 + 6 * c = 6 + 6 * b + k
      · rw [e, up_eq]; exact h0 (by omega)
      · rw [up_ne t e]; exact a0
    · by_cases e : 6 + 6 * c + 1 = 6 + 6 * b + k
      · rw [e, up_eq]; exact h1 (by omega)
      · rw [up_ne t e]; exact a1
    · by_cases e : 6 + 6 * c + 3 = 6 + 6 * b + k
      · rw [e, up_eq]; exact h3 (by omega)
      · rw [up_ne t e]; exact a3
    · by_cases e : 6 + 6 * c + 5 = 6 + 6 * b + k
      · rw [e, up_eq]; exact h5 (by omega)
      · rw [up_ne t e]; exact a5
theorem WT.low {t : Nat → Nat} {k x : Nat} (h : WT t) (hk : k < 6) (hx : x ≤ 200) (h0 : k = 0 → 1 ≤ x) (h2 : k = 2 → x ≤ 1) (h3 : k = 3 → x ≤ 4) (h5 : k = 5 → x ≤ 1) : WT (up t k x) := by
  obtain ⟨g1, g2, g3, g4, g5, g6⟩ := h
  refine ⟨g1.up hx, ?_, ?_, ?_, ?_, fun c hc => ?_⟩
  · by_cases e : 0 = k
    · rw [e, up_eq]; exact h0 e.symm
    · rw [up_ne t e]; exact g2
  · by_cases e : 2 = k
    · rw [e, up_eq]; exact h2 e.symm
    · rw [up_ne t e]; exact g3
  · by_cases e : 3 = k
    · rw [e, up_eq]; exact h3 e.symm
    · rw [up_ne t e]; exact g4
  · by_cases e : 5 = k
    · rw [e, up_eq]; exact h5 e.symm
    · rw [up_ne t e]; exact g5
  · rw [up_ne t (by omega), up_ne t (by omega), up_ne t (by omega), up_ne t (by omega)]; exact g6 c hc
theorem WT.flip {t : Nat → Nat} {b : Nat} (h : WT t) : WT (flip t b) := h.boat (by omega) (by omega) (by omega) (by omega) (by omega) (by omega)
theorem WT.l {t : Nat → Nat} (h : WT t) {b : Nat} (hb : b < 6) : t (6 + 6 * b + 5) ≤ 1 := (h.2.2.2.2.2 b hb).2.2.2
theorem up_up (t : Nat → Nat) (k x y : Nat) : up (up t k x) k y = up t k y := by
  funext q; unfold up; split <;> rfl
theorem up_self (t : Nat → Nat) (k : Nat) : up t k (t k) = t := by
  funext q; unfold up; split
  · rename_i h; rw [h]
  · rfl
theorem up_comm (t : Nat → Nat) {k q : Nat} (x y : Nat) (h : k ≠ q) : up (up t k x) q y = up (up t q y) k x := by
  funext a; unfold up
  by_cases h1 : a = q
  · by_cases h2 : a = k
    · omega
    · rw [if_pos h1, if_neg h2, if_pos h1]
  · by_cases h2 : a = k
    · rw [if_neg h1, if_pos h2, if_pos h2]
    · rw [if_neg h1, if_neg h2, if_neg h2, if_neg h1]
theorem flip_at (t : Nat → Nat) (b : Nat) : flip t b (6 + 6 * b + 5) = 1 - t (6 + 6 * b + 5) := by unfold flip; rw [up_eq]
theorem flip_flip {t : Nat → Nat} {b : Nat} (h : t (6 + 6 * b + 5) ≤ 1) : up (flip t b) (6 + 6 * b + 5) (1 - flip t b (6 + 6 * b + 5)) = t := by
  rw [flip_at]; unfold flip; rw [up_up, show 1 - (1 - t (6 + 6 * b + 5)) = t (6 + 6 * b + 5) by omega, up_self]
theorem flip_3 (t : Nat → Nat) (a b : Nat) : flip (up t 3 a) b = up (flip t b) 3 a := by
  unfold flip; rw [up_ne t (by omega), up_comm _ _ _ (by omega)]
def calmB (t : Nat → Nat) (n law : Nat) : Nat → Bool
  | 0 => true
  | b + 1 => calmB t n law b && decide (gS t n law b ≤ gS (flip t b) n law b)
theorem gS_3 {t : Nat → Nat} {a n law b : Nat} : gS (up t 3 a) n law b = gS t n law b := by unfold gS; rw [day_3]
theorem calmB_3 {t : Nat → Nat} {a n law : Nat} : ∀ k, calmB (up t 3 a) n law k = calmB t n law k
  | 0 => rfl
  | k + 1 => by simp only [calmB, calmB_3 k, flip_3, gS_3]
def bN (b : Bool) : Nat := if b then 1 else 0
theorem bN_le (b : Bool) : bN b ≤ 1 := by unfold bN; split <;> omega
theorem gS_le {t : Nat → Nat} {n law : Nat} (hn : n ≤ 6) (hw : WT t) (b : Nat) : gS t n law b ≤ 3200 := (day_ok hn hw).2.2.2 b
def liesT (t : Nat → Nat) (s : Nat) : Nat → Nat → Nat
  | 0 => t
  | b + 1 => up (liesT t s b) (6 + 6 * b + 5) (bitN s b)
theorem WT.lies {t : Nat → Nat} (h : WT t) (s : Nat) : ∀ b, WT (liesT t s b)
  | 0 => h
  | b + 1 => (h.lies s b).boat (by omega) (by have := bitN_le s b; omega) (by omega) (by omega) (by omega) (by have := bitN_le s b; omega)
theorem lies_3 (t : Nat → Nat) (s a : Nat) : ∀ b, liesT (up t 3 a) s b = up (liesT t s b) 3 a
  | 0 => rfl
  | b + 1 => by simp only [liesT, lies_3 t s a b]; rw [up_comm _ _ _ (by omega)]
theorem lies_low (t : Nat → Nat) (s : Nat) {k : Nat} (hk : k < 6) : ∀ b, liesT t s b k = t k
  | 0 => rfl
  | b + 1 => by simp only [liesT]; rw [up_ne _ (by omega), lies_low t s hk b]
def rsF (P : Nat → Bool) : Nat → Nat × Nat
  | 0 => (0, 100)
  | s + 1 => if P s then ((rsF P s).1 + 1, if (rsF P s).1 = 0 then s else (rsF P s).2) else rsF P s
theorem rs_F {P : Nat → Bool} {s : Nat} (h : P s = false) : rsF P (s + 1) = rsF P s := by simp [rsF, h]
theorem rs_T0 {P : Nat → Bool} {s : Nat} (h : P s = true) (h0 : (rsF P s).1 = 0) : rsF P (s + 1) = ((rsF P s).1 + 1, s) := by simp only [rsF, h, if_true, if_pos h0]
theorem rs_T1 {P : Nat → Bool} {s : Nat} (h : P s = true) (h0 : (rsF P s).1 ≠ 0) : rsF P (s + 1) = ((rsF P s).1 + 1, (rsF P s).2) := by simp only [rsF, h, if_true, if_neg h0]
theorem rs_le (P : Nat → Bool) : ∀ s, (rsF P s).1 ≤ s
  | 0 => Nat.le_refl _
  | s + 1 => by
    have := rs_le P s
    by_cases h : P s = true
    · by_cases h0 : (rsF P s).1 = 0
      · rw [rs_T0 h h0]; show (rsF P s).1 + 1 ≤ s + 1; omega
      · rw [rs_T1 h h0]; show (rsF P s).1 + 1 ≤ s + 1; omega
    · rw [rs_F (by simpa using h)]; omega
def ltF (P : Nat → Bool) : Nat → Nat
  | 0 => 0
  | v + 1 => if P (v + 1) then v + 1 else ltF P v
def qGain (t : Nat → Nat) (n : Nat) (b : Int32) : Int32 := if isB n b then 1000 + (nI (gS t n (t 3) (nn b)) - nI (gS (flip t (nn b)) n (t 3) (nn b))) else -1
def qCalm (t : Nat → Nat) (n : Nat) : Int32 := nI (mk (fun l => calmB t n l n) 5)
def qRests (t : Nat → Nat) (n : Nat) (a : Int32) : Int32 := if inI a 0 1 then (if a = 0 then nI (rsF (fun s => calmB (liesT t s n) n (t 3) n) (2 ^ n)).1 else enc (rsF (fun s => calmB (liesT t s n) n (t 3) n) (2 ^ n)).2) else -1
def qPost (t : Nat → Nat) (n : Nat) (a : Int32) : Int32 := if inI a 0 1 then (if a = 0 then nI (am (fun v => cost t (dS (day (up t 4 v) n (t 3) 0)) n) 1000000 10).1 else nI (am (fun v => cost t (dS (day (up t 4 v) n (t 3) 0)) n) 1000000 10).2) else -1
def qLate (t : Nat → Nat) (n : Nat) (b : Int32) : Int32 := if isB n b then nI (ltF (fun v => decide (dD (day (up t (6 + 6 * nn b + 2) (t (6 + 6 * nn b + 2) + v)) n (t 3) 0) (nn b) ≤ dD (day t n (t 3) 0) (nn b))) 60) else -1
theorem cost_le {t s : Nat → Nat} (hw : WT t) (hs : ∀ b, s b ≤ 3200) : ∀ n, n ≤ 6 → cost t s n ≤ 28800 * n
  | 0, _ => Nat.zero_le _
  | n + 1, h => by
    have h1 := cost_le hw hs n (by omega)
    have h2 := (hw.2.2.2.2.2 n (by omega)).2.2.1
    have h3 := Nat.mul_le_mul (hs n) h2
    show cost t s n + s n * t (6 + 6 * n + 3) ≤ _
    omega
theorem lng_le {s : Nat → Nat} (hs : ∀ b, s b ≤ 3200) : ∀ n, lng s n ≤ 3200
  | 0 => Nat.zero_le _
  | n + 1 => by
    have h1 := lng_le hs n
    have h2 := hs n
    simp only [lng]
    split <;> omega
theorem dWT_le {t : Nat → Nat} {n law cg : Nat} : ∀ i, dW (dIt t n law cg i).2 ≤ 2 * i ∧ dT (dIt t n law cg i).2 ≤ i
  | 0 => ⟨Nat.zero_le _, Nat.zero_le _⟩
  | i + 1 => by
    obtain ⟨h1, h2⟩ := dWT_le (t := t) (n := n) (law := law) (cg := cg) i
    have e1 : dW (dIt t n law cg (i + 1)).2 ≤ dW (dIt t n law cg i).2 + 2 := by
      show dW (dIt t n law cg i).2 + _ + _ ≤ _
      (repeat' split) <;> omega
    have e2 : dT (dIt t n law cg (i + 1)).2 ≤ dT (dIt t n law cg i).2 + 1 := by
      show dT (dIt t n law cg i).2 + _ ≤ _
      split <;> omega
    omega
theorem tellN_le {t t' : Nat → Nat} {n law cg k : Nat} (hn : n ≤ 6) (hw : WT t) (hw' : WT t') : tellN t n (day t' n law cg) k ≤ 172800 := by
  obtain ⟨h1, h2, h3, h4⟩ := day_ok (law := law) (cg := cg) hn hw'
  have hc := cost_le hw h4 n hn
  have hl := lng_le h4 n
  have hd := dWT_le (t := t') (n := n) (law := law) (cg := cg) n
  have hd1 : dW (day t' n law cg) ≤ 2 * n := hd.1
  have hd2 : dT (day t' n law cg) ≤ n := hd.2
  unfold tellN
  (repeat' split) <;> omega
def okSet (a x : Int32) : Prop := (0 ≤ a.toInt ∧ a.toInt ≤ 5) ∧ (if a.toInt = 0 then (1 : Int) else 0) ≤ x.toInt ∧ x.toInt ≤ (if a.toInt = 2 ∨ a.toInt = 5 then (1 : Int) else if a.toInt = 3 then 4 else 9)
def okAlt (n : Nat) (b a x : Int32) : Prop := isB n b ∧ inI a 1 4 ∧ 0 ≤ x.toInt ∧ x.toInt ≤ (if a.toInt = 1 then (3 : Int) else if a.toInt = 2 then 99 else 9)
theorem six_i (i : Nat) : (6 : Int32) + 6 * nI i + 0 = nI (6 + 6 * i) := by
  rw [show (6 : Int32) = nI 6 from rfl, pk_mul, nI_add, show (0 : Int32) = nI 0 from rfl, nI_add]; rfl
