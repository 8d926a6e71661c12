/-! a day as LockTurns holds it -/
set_option maxRecDepth 100000
def enL (x : Nat) : Int32 := if x = 2 then -4 else nI x
theorem enL_nI {x : Nat} (h : x ≠ 2) : enL x = nI x := by unfold enL; rw [if_neg h]
theorem enL_eq {s la : Nat} (hs : s ≤ 1) (hl : la ≤ 2) : nI s = enL la ↔ s = la := by
  unfold enL
  by_cases h : la = 2
  · rw [if_pos h]
    constructor
    · intro q
      have h1 := congrArg Int32.toInt q
      rw [nI_toInt (by omega)] at h1
      have h2 : (-4 : Int32).toInt = -4 := by decide
      omega
    · intro q; omega
  · rw [if_neg h]
    exact nI_eq (by omega) (by omega)
theorem enL_m4 {la : Nat} (hl : la ≤ 2) : enL la = -4 ↔ la = 2 := by
  unfold enL
  by_cases h : la = 2
  · rw [if_pos h]; exact ⟨fun _ => h, fun _ => rfl⟩
  · rw [if_neg h]
    constructor
    · intro q
      have h1 := congrArg Int32.toInt q
      rw [nI_toInt (by omega)] at h1
      have h2 : (-4 : Int32).toInt = -4 := by decide
      omega
    · intro q; exact absurd q h
/-- nothing but the day's own places has changed -/
def offX (v v' : Mem) : Prop := (∀ k, k ≠ 9 → k ≠ 10 → k ≠ 11 → v' 0 k = v 0 k) ∧ ∀ j, j ≠ 0 → j ≠ 12 → j ≠ 13 → j ≠ 14 → j ≠ 15 → j ≠ 16 → v' j = v j
theorem offX.rf (v : Mem) : offX v v := ⟨fun _ _ _ _ => rfl, fun _ _ _ _ _ _ _ => rfl⟩
theorem offX.tr {a b c : Mem} (h : offX a b) (g : offX b c) : offX a c := ⟨fun k h1 h2 h3 => (g.1 k h1 h2 h3).trans (h.1 k h1 h2 h3), fun j h1 h2 h3 h4 h5 h6 => (g.2 j h1 h2 h3 h4 h5 h6).trans (h.2 j h1 h2 h3 h4 h5 h6)⟩
theorem offX.put0 {a b : Mem} {k : Nat} {x : Int32} (h : offX a b) (hk : k = 9 ∨ k = 10 ∨ k = 11) : offX a (st2 b 0 k x) :=
  ⟨fun q h1 h2 h3 => by rw [st2_at _ _ _ (by omega)]; exact h.1 q h1 h2 h3, fun j h1 h2 h3 h4 h5 h6 => by funext q; rw [st2_cell _ _ _ h1, h.2 j h1 h2 h3 h4 h5 h6]⟩
theorem offX.putA {a b : Mem} {j k : Nat} {x : Int32} (h : offX a b) (hj : j = 12 ∨ j = 13 ∨ j = 14 ∨ j = 15 ∨ j = 16) : offX a (st2 b j k x) :=
  ⟨fun q h1 h2 h3 => by rw [st2_cell _ _ _ (by omega)]; exact h.1 q h1 h2 h3, fun i h1 h2 h3 h4 h5 h6 => by funext q; rw [st2_cell _ _ _ (by omega), h.2 i h1 h2 h3 h4 h5 h6]⟩
theorem TdV.off {a b : Mem} {j : Nat} {t : Nat → Nat} (h : TdV a j t) (g : ∀ i, j ≤ i → i < j + 10 → b i = a i) : TdV b j t :=
  ⟨fun k hk => by rw [g (j + 1) (by omega) (by omega)]; exact h.1 k hk, fun c hc => by rw [g (j + 2) (by omega) (by omega)]; exact h.2.1 c hc, fun c hc k hk => by rw [g (j + 4 + c) (by omega) (by omega)]; exact h.2.2.1 c hc k hk, by rw [g j (by omega) (by omega)]; exact h.2.2.2⟩
theorem offX.nw {a b : Mem} (h : offX a b) {t : Nat → Nat} (g : NwV a t) : NwV b t := g.off (fun i h1 h2 => h.2 i (by omega) (by omega) (by omega) (by omega) (by omega) (by omega))
theorem TdV.put {v : Mem} {j i k : Nat} {x : Int32} {t : Nat → Nat} (h : TdV v j t) (hi : i < j ∨ j + 10 ≤ i) : TdV (st2 v i k x) j t := h.off (fun q h1 h2 => by funext z; rw [st2_cell _ _ _ (by omega)])
/-- LockTurns holds the day d; L: who hasn't passed yet -/
def DX (v : Mem) (n L : Nat) (d : Day) : Prop := v 0 11 = nI (dF d) ∧ v 12 1 = nI (dR d) ∧ v 12 2 = enL (dLa d) ∧ v 12 3 = nI (dRo d) ∧ v 0 9 = nI (dW d) ∧ v 0 10 = nI (dT d) ∧ ∀ b, b < n → L.testBit b = false → v 15 b = nI (dD d b) ∧ v 16 b = nI (dS d b)
/-- what 'goesThrough' leaves -/
def GtP (t : Nat → Nat) (d : Day) (b : Nat) (v v' : Mem) : Prop := offX v v' ∧ v' 12 4 = v 12 4 ∧ v' 13 = v 13 ∧ v' 14 = v 14 ∧ v' 0 11 = nI (dF (dLet t d b)) ∧ v' 12 1 = nI (dR (dLet t d b)) ∧ v' 12 2 = nI (dLa (dLet t d b)) ∧ v' 12 3 = nI (dRo (dLet t d b)) ∧ v' 0 9 = nI (dW (dLet t d b)) ∧ v' 0 10 = nI (dT (dLet t d b)) ∧ (∀ i, v' 15 i = if i = b then nI (dBeg t d b + t 0) else v 15 i) ∧ ∀ i, v' 16 i = if i = b then nI (dBeg t d b - t (6 + 6 * b + 2)) else v 16 i
theorem DX_let {t : Nat → Nat} {v1 v2 : Mem} {n L b : Nat} {d : Day} (hn : n ≤ 6) (hL : L < 64) (hb : b < 6) (hs : t (6 + 6 * b) ≤ 1) (h : DX v1 n L d) (g : GtP t d b v1 v2) : DX v2 n (clr L b) (dLet t d b) := by
  obtain ⟨h1, h2, h3, h4, h5, h6, h7⟩ := h
  obtain ⟨g0, ga, gb, gc, g1, g2, g3, g4, g5, g6, g7, g8⟩ := g
  refine ⟨g1, g2, ?_, g4, g5, g6, fun c hc hLc => ?_⟩
  · have e : dLa (dLet t d b) = t (6 + 6 * b) := rfl
    rw [g3, enL_nI (by rw [e]; omega)]
  · rw [g7 c, g8 c]
    show _ = nI (up (dD d) b _ c) ∧ _ = nI (up (dS d) b _ c)
    unfold up
    by_cases e : c = b
    · rw [if_pos e, if_pos e, if_pos e, if_pos e]; exact ⟨rfl, rfl⟩
    · rw [if_neg e, if_neg e, if_neg e, if_neg e]
      refine h7 c hc ?_
      rw [clr_bit hL hb (by omega)] at hLc
      simpa [e] using hLc
theorem DX_set {v : Mem} {n L f : Nat} {d : Day} (h : DX v n L d) : DX (st2 v 0 11 (nI f)) n L (dSet d f) := by
  obtain ⟨h1, h2, h3, h4, h5, h6, h7⟩ := h
  exact ⟨rfl, h2, h3, h4, h5, h6, h7⟩
/-- what 'opens' leaves -/
def OpP (t : Nat → Nat) (v v' : Mem) : Prop := offX v v' ∧ v' 12 4 = v 12 4 ∧ v' 12 1 = nI (t 2) ∧ v' 12 2 = -4 ∧ v' 12 3 = nI 0 ∧ v' 0 9 = nI 0 ∧ v' 0 10 = nI 0 ∧ v' 0 11 = nI 0 ∧ ∀ j, j ≠ 0 → j ≠ 12 → v' j = v j
theorem DX_open {v v' : Mem} {t : Nat → Nat} {n : Nat} (h : OpP t v v') : DX v' n (2 ^ n - 1) (dOpen t) := by
  obtain ⟨h0, h00, h1, h2, h3, h4, h5, h6, h7⟩ := h
  refine ⟨h6, h1, h2, h3, h4, h5, fun b hb hL => ?_⟩
  rw [Nat.testBit_two_pow_sub_one] at hL
  simp [hb] at hL
theorem DX.sd {v : Mem} {n : Nat} {d : Day} (h : DX v n 0 d) : ∀ b, b < n → v 16 b = nI (dS d b) := fun b hb => (h.2.2.2.2.2.2 b hb (Nat.zero_testBit b)).2
theorem DX.dn {v : Mem} {n : Nat} {d : Day} (h : DX v n 0 d) : ∀ b, b < n → v 15 b = nI (dD d b) := fun b hb => (h.2.2.2.2.2.2 b hb (Nat.zero_testBit b)).1
theorem mnc_le (t : Nat → Nat) (L : Nat) : ∀ n, mnc t L n ≤ 1000000
  | 0 => Nat.le_refl _
  | n + 1 => by
    have := mnc_le t L n
    simp only [mnc]
    (repeat' split) <;> omega
theorem rx12 (ad : Nat → Nat) (ro : Nat → Option Nat) (gt : Option Nat) : ∀ {k : Nat}, k ≠ 0 → k ≠ 5 → rX ad ro gt 12 k = none
  | 0, h, _ => absurd rfl h
  | 5, _, h => absurd rfl h
  | 1, _, _ => rfl
  | 2, _, _ => rfl
  | 3, _, _ => rfl
  | 4, _, _ => rfl
  | _ + 6, _, _ => rfl
theorem rx_eq (ad : Nat → Nat) (ro : Nat → Option Nat) (gt : Option Nat) (x : Option Nat) : ∀ j, j < 88 → sr2 (rX ad ro gt) 12 0 x j = rX ad ro x j := by
  intro j hj
  funext k
  unfold sr2
  by_cases h : j = 12 ∧ k = 0
  · obtain ⟨rfl, rfl⟩ := h; rfl
  · rw [if_neg h]
    by_cases h12 : j = 12
    · subst h12
      by_cases h5 : k = 5
      · subst h5; rfl
      · have h0 : k ≠ 0 := fun q => h ⟨rfl, q⟩
        rw [rx12 ad ro gt h0 h5, rx12 ad ro x h0 h5]
    · revert h12
      clear h
      revert j
      intro j hj h12
      unfold rX
      split <;> first | rfl | omega | exact absurd rfl h12
theorem rx_told {E : GEnv} {ad : Nat → Nat} {ro : Nat → Option Nat} {gt x : Option Nat} {A : Nat → Prop} {H0 H : Heap} {v : Mem} {locs : List Loc} (I : GI E vwCl (wX ad) (sr2 (rX ad ro gt) 12 0 x) A H0 v H locs) : GI E vwCl (wX ad) (rX ad ro x) A H0 v H locs := by
  have e : gw E (wX ad) (sr2 (rX ad ro gt) 12 0 x) v = gw E (wX ad) (rX ad ro x) v := by
    unfold gw
    apply List.map_congr_left
    intro j hj
    rw [rx_eq ad ro gt x j (List.mem_range.mp hj)]
  obtain ⟨h1, h2, h3⟩ := I
  rw [e] at h1 h2
  exact ⟨h1, h2, h3⟩
