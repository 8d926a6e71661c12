/-! plain laws of a day -/
set_option maxRecDepth 100000
theorem ea_spec (S : Nat → Bool) (key : Nat → Nat) : ∀ n, n ≤ 100 → (ea S key n = 100 ∧ ∀ b, b < n → S b = false) ∨ (ea S key n < n ∧ S (ea S key n) = true ∧ ∀ c, c < n → S c = true → key (ea S key n) < key c ∨ (key (ea S key n) = key c ∧ ea S key n ≤ c))
  | 0, _ => Or.inl ⟨rfl, fun b h => absurd h (Nat.not_lt_zero _)⟩
  | n + 1, hn => by
    have ih := ea_spec S key n (by omega)
    by_cases hS : S n = true
    · rcases ih with ⟨h1, h2⟩ | ⟨h1, h2, h3⟩
      · right
        have e := ea_T (key := key) hS (Or.inl h1)
        rw [← e]
        refine ⟨by omega, hS, fun c hc hSc => ?_⟩
        by_cases hcn : c = n
        · subst hcn; omega
        · rw [h2 c (by omega)] at hSc; cases hSc
      · by_cases hk : key n < key (ea S key n)
        · right
          have e := ea_T (key := key) hS (Or.inr hk)
          rw [← e]
          refine ⟨by omega, hS, fun c hc hSc => ?_⟩
          by_cases hcn : c = n
          · subst hcn; omega
          · have := h3 c (by omega) hSc; omega
        · right
          have e := ea_F (S := S) (key := key) (b := n) (Or.inr (by omega))
          rw [← e]
          refine ⟨by omega, h2, fun c hc hSc => ?_⟩
          by_cases hcn : c = n
          · subst hcn; omega
          · exact h3 c (by omega) hSc
    · have hS' : S n = false := by simpa using hS
      have e := ea_F (S := S) (key := key) (b := n) (Or.inl hS')
      rw [← e]
      rcases ih with ⟨h1, h2⟩ | ⟨h1, h2, h3⟩
      · left
        refine ⟨h1, fun b hb => ?_⟩
        by_cases hbn : b = n
        · subst hbn; exact hS'
        · exact h2 b (by omega)
      · right
        refine ⟨by omega, h2, fun c hc hSc => ?_⟩
        by_cases hcn : c = n
        · subst hcn; rw [hS'] at hSc; cases hSc
        · exact h3 c (by omega) hSc
theorem ea_uniq {S : Nat → Bool} {key : Nat → Nat} {n b : Nat} (hn : n ≤ 100) (h1 : b < n) (h2 : S b = true) (h3 : ∀ c, c < n → S c = true → key b < key c ∨ (key b = key c ∧ b ≤ c)) : ea S key n = b := by
  rcases ea_spec S key n hn with ⟨_, q2⟩ | ⟨q1, q2, q3⟩
  · rw [q2 b h1] at h2; cases h2
  · have a1 := h3 _ q1 q2
    have a2 := q3 b h1 h2
    omega
theorem ea_some {S : Nat → Bool} {key : Nat → Nat} {n : Nat} (hn : n ≤ 100) (h : ∃ b, b < n ∧ S b = true) : ea S key n < n ∧ S (ea S key n) = true ∧ ∀ c, c < n → S c = true → key (ea S key n) < key c ∨ (key (ea S key n) = key c ∧ ea S key n ≤ c) := by
  obtain ⟨b, hb, hS⟩ := h
  rcases ea_spec S key n hn with ⟨_, q2⟩ | q
  · rw [q2 b hb] at hS; cases hS
  · exact q
theorem mnc_spec (t : Nat → Nat) (L : Nat) (hT : TB t) : ∀ n, (∀ b, b < n → L.testBit b = true → mnc t L n ≤ cnt t b) ∧ ((∃ b, b < n ∧ L.testBit b = true ∧ mnc t L n = cnt t b) ∨ ((∀ b, b < n → L.testBit b = false) ∧ mnc t L n = 1000000))
  | 0 => ⟨fun b h => absurd h (Nat.not_lt_zero _), Or.inr ⟨fun b h => absurd h (Nat.not_lt_zero _), rfl⟩⟩
  | n + 1 => by
    obtain ⟨h1, h2⟩ := mnc_spec t L hT n
    have hc := cnt_le hT n
    by_cases hL : L.testBit n = true
    · have e : mnc t L (n + 1) = if cnt t n < mnc t L n then cnt t n else mnc t L n := by simp [mnc, hL]
      rw [e]
      by_cases hlt : cnt t n < mnc t L n
      · rw [if_pos hlt]
        refine ⟨fun b hb hLb => ?_, Or.inl ⟨n, by omega, hL, rfl⟩⟩
        by_cases hbn : b = n
        · subst hbn; omega
        · have := h1 b (by omega) hLb; omega
      · rw [if_neg hlt]
        refine ⟨fun b hb hLb => ?_, Or.inl ?_⟩
        · by_cases hbn : b = n
          · subst hbn; omega
          · exact h1 b (by omega) hLb
        · rcases h2 with ⟨b, q1, q2, q3⟩ | ⟨q1, q2⟩
          · exact ⟨b, by omega, q2, q3⟩
          · omega
    · have hL' : L.testBit n = false := by simpa using hL
      have e : mnc t L (n + 1) = mnc t L n := by simp [mnc, hL']
      rw [e]
      refine ⟨fun b hb hLb => ?_, ?_⟩
      · by_cases hbn : b = n
        · subst hbn; rw [hL'] at hLb; cases hLb
        · exact h1 b (by omega) hLb
      · rcases h2 with ⟨b, q1, q2, q3⟩ | ⟨q1, q2⟩
        · exact Or.inl ⟨b, by omega, q2, q3⟩
        · refine Or.inr ⟨fun b hb => ?_, q2⟩
          by_cases hbn : b = n
          · subst hbn; exact hL'
          · exact q1 b (by omega)
theorem mk_ne {S : Nat → Bool} {n : Nat} (h : mk S n ≠ 0) : ∃ b, b < n ∧ S b = true := by
  apply Classical.byContradiction
  intro q
  apply h
  apply Nat.eq_of_testBit_eq
  intro i
  rw [mk_bit, Nat.zero_testBit]
  by_cases hi : i < n
  · by_cases hS : S i = true
    · exact absurd ⟨i, hi, hS⟩ q
    · simp at hS; simp [hS]
  · simp [hi]
/-- nobody counts: the lock is free when the first one counts -/
theorem free_none {t : Nat → Nat} {n L : Nat} {d : Day} (hT : TB t) (hn : n ≤ 6) (hL : ∃ b, b < n ∧ L.testBit b = true) (h : mk (fun b => L.testBit b && decide (cnt t b ≤ dF d)) n = 0) : cnt t (ea (fun b => L.testBit b) (cnt t) n) = dFree t n L d := by
  have h0 := mk_zero h
  obtain ⟨e1, e2, e3⟩ := ea_some (key := cnt t) (S := fun b => L.testBit b) (n := n) (by omega) hL
  obtain ⟨m1, m2⟩ := mnc_spec t L hT n
  have k1 := m1 _ e1 e2
  have k2 : ¬ cnt t (ea (fun b => L.testBit b) (cnt t) n) ≤ dF d := by
    have := h0 _ e1
    have e2' : L.testBit (ea (fun b => L.testBit b) (cnt t) n) = true := e2
    simpa [e2'] using this
  rcases m2 with ⟨b, q1, q2, q3⟩ | ⟨q1, q2⟩
  · have k3 := e3 b q1 q2
    have k4 : ¬ cnt t b ≤ dF d := by
      have := h0 b q1
      simpa [q2] using this
    unfold dFree
    rw [if_pos (by omega)]
    omega
  · obtain ⟨b, b1, b2⟩ := hL
    rw [q1 b b1] at b2; cases b2
theorem free_some {t : Nat → Nat} {n L : Nat} {d : Day} (hT : TB t) (h : mk (fun b => L.testBit b && decide (cnt t b ≤ dF d)) n ≠ 0) : dF d = dFree t n L d := by
  obtain ⟨b, b1, b2⟩ := mk_ne h
  obtain ⟨m1, m2⟩ := mnc_spec t L hT n
  have b3 : L.testBit b = true ∧ cnt t b ≤ dF d := by simpa using b2
  have := m1 b b1 b3.1
  unfold dFree
  rw [if_neg (by omega)]
/-- somebody counts then -/
theorem free_C {t : Nat → Nat} {n L : Nat} {d : Day} (hT : TB t) (hL : ∃ b, b < n ∧ L.testBit b = true) : ∃ b, b < n ∧ dC t L (dFree t n L d) b = true := by
  obtain ⟨m1, m2⟩ := mnc_spec t L hT n
  rcases m2 with ⟨b, q1, q2, q3⟩ | ⟨q1, q2⟩
  · refine ⟨b, q1, ?_⟩
    have : cnt t b ≤ dFree t n L d := by unfold dFree; split <;> omega
    simp [dC, q2, this]
  · obtain ⟨b, b1, b2⟩ := hL
    rw [q1 b b1] at b2; cases b2
theorem dFree_le {t : Nat → Nat} {n L : Nat} {d : Day} (hT : TB t) (hL : ∃ b, b < n ∧ L.testBit b = true) : dFree t n L d ≤ (if dF d < 200 then 200 else dF d) := by
  obtain ⟨m1, m2⟩ := mnc_spec t L hT n
  rcases m2 with ⟨b, q1, q2, q3⟩ | ⟨q1, q2⟩
  · have := cnt_le hT b
    unfold dFree; split <;> split <;> omega
  · obtain ⟨b, b1, b2⟩ := hL
    rw [q1 b b1] at b2; cases b2
theorem tb_add {x b : Nat} (hx : x < 2 ^ b) (c : Nat) : (x + 2 ^ b).testBit c = (decide (c = b) || x.testBit c) := by
  rw [Nat.add_comm]
  by_cases h1 : c = b
  · subst h1
    rw [Nat.testBit_two_pow_add_eq, Nat.testBit_lt_two_pow hx]; simp
  · by_cases h2 : c < b
    · rw [Nat.testBit_two_pow_add_gt h2]; simp [h1]
    · have h3 : 2 ^ b + x < 2 ^ c := by
        have : b + 1 ≤ c := by omega
        have h3 := Nat.pow_le_pow_right (n := 2) (by omega) this
        rw [Nat.pow_succ] at h3
        omega
      have h4 : x < 2 ^ c := by omega
      rw [Nat.testBit_lt_two_pow h3, Nat.testBit_lt_two_pow h4]; simp [h1]
theorem lcF_spec (S : Nat → Bool) (key : Nat → Nat) (hk : ∀ b, key b < 1000000000) : ∀ n, (∀ e, e < n → S e = true → (lcF S key n).1 ≤ key e) ∧ ((∃ e, e < n ∧ S e = true ∧ key e = (lcF S key n).1) ∨ ((∀ e, e < n → S e = false) ∧ (lcF S key n).1 = 1000000000)) ∧ ∀ c, (lcF S key n).2.testBit c = true ↔ (c < n ∧ S c = true ∧ key c = (lcF S key n).1)
  | 0 => ⟨fun e h => absurd h (Nat.not_lt_zero _), Or.inr ⟨fun e h => absurd h (Nat.not_lt_zero _), rfl⟩, fun c => by simp [lcF]⟩
  | n + 1 => by
    obtain ⟨h1, h2, h3⟩ := lcF_spec S key hk n
    have hl := lcF_lt S key n
    by_cases hS : S n = true
    · rcases Nat.lt_trichotomy (key n) (lcF S key n).1 with hc | hc | hc
      · rw [lcF_L hS hc]
        refine ⟨fun e he hSe => ?_, Or.inl ⟨n, by omega, hS, rfl⟩, fun c => ?_⟩
        · show key n ≤ key e
          by_cases hen : e = n
          · subst hen; omega
          · have := h1 e (by omega) hSe; omega
        · show (2 ^ n).testBit c = true ↔ (c < n + 1 ∧ S c = true ∧ key c = key n)
          rw [Nat.testBit_two_pow]
          constructor
          · intro q
            have : n = c := by simpa using q
            subst this
            exact ⟨by omega, hS, rfl⟩
          · rintro ⟨q1, q2, q3⟩
            by_cases hcn : n = c
            · simp [hcn]
            · have := h1 c (by omega) q2; omega
      · rw [lcF_E hS hc]
        refine ⟨fun e he hSe => ?_, Or.inl ⟨n, by omega, hS, hc⟩, fun c => ?_⟩
        · show (lcF S key n).1 ≤ key e
          by_cases hen : e = n
          · subst hen; omega
          · exact h1 e (by omega) hSe
        · show ((lcF S key n).2 + 2 ^ n).testBit c = true ↔ (c < n + 1 ∧ S c = true ∧ key c = (lcF S key n).1)
          rw [tb_add hl]
          have h3c := h3 c
          constructor
          · intro q
            by_cases hcn : c = n
            · subst hcn; exact ⟨by omega, hS, hc⟩
            · have := h3c.mp (by simpa [hcn] using q)
              exact ⟨by omega, this.2⟩
          · rintro ⟨q1, q2, q3⟩
            by_cases hcn : c = n
            · simp [hcn]
            · simp [h3c.mpr ⟨by omega, q2, q3⟩]
      · rw [lcF_G hS hc]
        refine ⟨fun e he hSe => ?_, ?_, fun c => ?_⟩
        · by_cases hen : e = n
          · subst hen; omega
          · exact h1 e (by omega) hSe
        · rcases h2 with ⟨e, q1, q2, q3⟩ | ⟨q1, q2⟩
          · exact Or.inl ⟨e, by omega, q2, q3⟩
          · have := hk n; omega
        · have h3c := h3 c
          constructor
          · intro q
            have := h3c.mp q
            exact ⟨by omega, this.2⟩
          · rintro ⟨q1, q2, q3⟩
            by_cases hcn : c = n
            · subst hcn; omega
            · exact h3c.mpr ⟨by omega, q2, q3⟩
    · have hS' : S n = false := by simpa using hS
      rw [lcF_N hS']
      refine ⟨fun e he hSe => ?_, ?_, fun c => ?_⟩
      · by_cases hen : e = n
        · subst hen; rw [hS'] at hSe; cases hSe
        · exact h1 e (by omega) hSe
      · rcases h2 with ⟨e, q1, q2, q3⟩ | ⟨q1, q2⟩
        · exact Or.inl ⟨e, by omega, q2, q3⟩
        · refine Or.inr ⟨fun e he => ?_, q2⟩
          by_cases hen : e = n
          · subst hen; exact hS'
          · exact q1 e (by omega)
      · have h3c := h3 c
        constructor
        · intro q
          have := h3c.mp q
          exact ⟨by omega, this.2⟩
        · rintro ⟨q1, q2, q3⟩
          by_cases hcn : c = n
          · subst hcn; rw [hS'] at q2; cases q2
          · exact h3c.mpr ⟨by omega, q2, q3⟩
theorem dWant_congr {t : Nat → Nat} {n law : Nat} {S T : Nat → Bool} {d : Day} (h : ∀ b, b < n → S b = T b) : dWant t n law S d = dWant t n law T d := by
  unfold dWant
  rw [cn_congr (S := fun b => S b && decide (t (6 + 6 * b) = 0)) (T := fun b => T b && decide (t (6 + 6 * b) = 0)) n (fun b hb => by rw [h b hb]), cn_congr (S := fun b => S b && decide (t (6 + 6 * b) = 1)) (T := fun b => T b && decide (t (6 + 6 * b) = 1)) n (fun b hb => by rw [h b hb])]
/-- those that the reference's law takes: of those that count, those of the least rank -/
theorem tk_char {t : Nat → Nat} {n law cg : Nat} {C : Nat → Bool} {d : Day} (hn : n ≤ 6) (hw : WT t) (hcg : ∀ b, b < 6 → cg.testBit b = true → t (6 + 6 * b + 5) = 1) : ∀ c, c < n → ((tkM t n law cg (mk C n) d).testBit c = true ↔ (C c = true ∧ ∀ e, e < n → C e = true → dRank t n law cg C d c ≤ dRank t n law cg C d e)) := by
  intro c hc
  have hb : ∀ b, b < n → (mk C n).testBit b = C b := fun b hb => by rw [mk_bit]; simp [hb]
  unfold tkM
  by_cases l3 : law = 3
  · rw [if_pos l3]
    have hk : ∀ b, b < n → ct t cg b = dRank t n law cg C d b := by
      intro b hb
      have w := hw.2.2.2.2.2 b (by omega)
      have g := hcg b (by omega)
      subst l3
      unfold ct dRank
      by_cases q : cg.testBit b = true
      · have := g q
        rw [if_neg (by omega), if_pos q, if_neg (by decide), if_pos rfl, if_pos q]
      · rw [if_neg (by decide : ¬ (3 = 0)), if_pos rfl, if_neg q, if_neg q]
        by_cases z : t (6 + 6 * b + 5) = 0
        · rw [if_pos z, if_neg (by omega)]
        · rw [if_neg z, if_pos (by omega)]
    obtain ⟨h1, h2, h3⟩ := lcF_spec (fun b => (mk C n).testBit b) (ct t cg) (fun b => by have := ct_le hw.1 cg b; omega) n
    rw [h3 c]
    constructor
    · rintro ⟨q1, q2, q3⟩
      refine ⟨by rw [← hb c hc]; exact q2, fun e he hCe => ?_⟩
      rw [← hk c hc, ← hk e he, q3]
      exact h1 e he (by show (mk C n).testBit e = true; rw [hb e he]; exact hCe)
    · rintro ⟨q1, q2⟩
      refine ⟨hc, by show (mk C n).testBit c = true; rw [hb c hc]; exact q1, ?_⟩
      have a1 := h1 c hc (by show (mk C n).testBit c = true; rw [hb c hc]; exact q1)
      rcases h2 with ⟨e, e1, e2, e3⟩ | ⟨e1, e2⟩
      · have e2' : C e = true := by rw [← hb e e1]; exact e2
        have := q2 e e1 e2'
        rw [← hk c hc, ← hk e e1] at this
        omega
      · have := e1 c hc
        have q1' : (mk C n).testBit c = true := by rw [hb c hc]; exact q1
        rw [q1'] at this; cases this
  · rw [if_neg l3]
    by_cases l0 : law = 0
    · rw [if_pos l0, hb c hc]
      constructor
      · intro q; exact ⟨q, fun e _ _ => by unfold dRank; rw [if_pos l0, if_pos l0]; exact Nat.le_refl _⟩
      · exact fun q => q.1
    · rw [if_neg l0]
      have hsd : dWant t n law (fun b => (mk C n).testBit b) d = dWant t n law C d := dWant_congr hb
      rw [hsd]
      generalize hwd : dWant t n law C d = sd
      have hr : ∀ b, dRank t n law cg C d b = if t (6 + 6 * b) = sd then 0 else 1 := fun b => by unfold dRank; rw [if_neg l0, if_neg l3, hwd]
      unfold prefM
      by_cases h0 : mk (fun b => (mk C n).testBit b && decide (t (6 + 6 * b) = sd)) n = 0
      · rw [if_pos h0, hb c hc]
        have hz := mk_zero h0
        have hno : ∀ e, e < n → C e = true → ¬ t (6 + 6 * e) = sd := by
          intro e he hCe q
          have := hz e he
          rw [hb e he, hCe, q] at this
          simp at this
        constructor
        · intro q
          refine ⟨q, fun e he hCe => ?_⟩
          rw [hr, hr, if_neg (hno c hc q), if_neg (hno e he hCe)]; exact Nat.le_refl _
        · exact fun q => q.1
      · rw [if_neg h0, mk_bit]
        obtain ⟨g, g1, g2⟩ := mk_ne h0
        have g3 : C g = true ∧ t (6 + 6 * g) = sd := by
          rw [hb g g1] at g2; simpa using g2
        rw [hb c hc]
        constructor
        · intro q
          have q' : C c = true ∧ t (6 + 6 * c) = sd := by simpa [hc] using q
          refine ⟨q'.1, fun e he hCe => ?_⟩
          rw [hr, if_pos q'.2]; exact Nat.zero_le _
        · rintro ⟨q1, q2⟩
          have := q2 g g1 g3.1
          rw [hr, hr, if_pos g3.2] at this
          have q3 : t (6 + 6 * c) = sd := by
            apply Classical.byContradiction
            intro z
            rw [if_neg z] at this
            omega
          simp [hc, q1, q3]
theorem dRank_le {t : Nat → Nat} {n law cg : Nat} {C : Nat → Bool} {d : Day} (hw : WT t) {b : Nat} (hb : b < 6) : dRank t n law cg C d b ≤ 4 := by
  have w := hw.2.2.2.2.2 b hb
  unfold dRank
  (repeat' split) <;> omega
/-- the reference's choice is the day's -/
theorem pick_ref {t : Nat → Nat} {n law cg L : Nat} {d : Day} (hn : n ≤ 6) (hw : WT t) (hcg : ∀ b, b < 6 → cg.testBit b = true → t (6 + 6 * b + 5) = 1) (hL : ∃ b, b < n ∧ L.testBit b = true) (f : Nat) (hf : f = dFree t n L d) (d' : Day) (hd : d' = dSet d f) :
    ea (fun b => (tkM t n law cg (mk (fun b => L.testBit b && decide (cnt t b ≤ f)) n) d').testBit b) (cnt t) n = dPick t n law cg L d := by
  subst hf
  have hE : tkM t n law cg (mk (fun b => L.testBit b && decide (cnt t b ≤ dFree t n L d)) n) d' = tkM t n law cg (mk (dC t L (dFree t n L d)) n) d := by
    subst hd
    show tkM t n law cg (mk (dC t L (dFree t n L d)) n) (dSet d (dFree t n L d)) = _
    unfold tkM dWant
    rfl
  rw [hE]
  have hC := free_C (d := d) hw.1 hL
  obtain ⟨p1, p2, p3⟩ := ea_some (key := fun b => 1000 * dRank t n law cg (dC t L (dFree t n L d)) d b + cnt t b) (by omega) hC
  have hch := tk_char (law := law) (C := dC t L (dFree t n L d)) (d := d) hn hw hcg
  have hdef : dPick t n law cg L d = ea (dC t L (dFree t n L d)) (fun b => 1000 * dRank t n law cg (dC t L (dFree t n L d)) d b + cnt t b) n := rfl
  rw [← hdef] at p1 p2 p3
  generalize dPick t n law cg L d = b at p1 p2 p3
  have hmin : ∀ e, e < n → dC t L (dFree t n L d) e = true → dRank t n law cg (dC t L (dFree t n L d)) d b ≤ dRank t n law cg (dC t L (dFree t n L d)) d e := by
    intro e he hCe
    have := p3 e he hCe
    have c1 := cnt_le hw.1 b
    have c2 := cnt_le hw.1 e
    omega
  refine ea_uniq (by omega) p1 ((hch b p1).mpr ⟨p2, hmin⟩) (fun c hc hM => ?_)
  obtain ⟨q1, q2⟩ := (hch c hc).mp hM
  have a1 := q2 b p1 p2
  have a2 := hmin c hc q1
  have := p3 c hc q1
  omega

theorem cn_pos {S : Nat → Bool} : ∀ n, cn S n ≠ 0 → ∃ b, b < n ∧ S b = true
  | 0, h => absurd rfl h
  | n + 1, h => by
    by_cases hS : S n = true
    · exact ⟨n, by omega, hS⟩
    · have hS' : S n = false := by simpa using hS
      obtain ⟨b, h1, h2⟩ := cn_pos n (by simpa [cn, hS'] using h)
      exact ⟨b, by omega, h2⟩
theorem cn_zero {S : Nat → Bool} : ∀ n, cn S n = 0 → ∀ b, b < n → S b = false
  | 0, _, b, hb => absurd hb (Nat.not_lt_zero _)
  | n + 1, h, b, hb => by
    simp only [cn] at h
    by_cases hS : S n = true
    · rw [if_pos hS] at h; omega
    · have hS' : S n = false := by simpa using hS
      by_cases hbn : b = n
      · subst hbn; exact hS'
      · exact cn_zero n (by omega) b (by omega)
theorem cn_full_ : ∀ n, n < 7 → cn (fun b => (2 ^ n - 1).testBit b) n = n := by decide +kernel
theorem cn_clr_ : ∀ n, n < 7 → ∀ L, L < 64 → ∀ b, b < n → L.testBit b = true → cn (fun c => (clr L b).testBit c) n + 1 = cn (fun c => L.testBit c) n := by decide +kernel
theorem bits64 {L c : Nat} (hL : L < 64) (h : L.testBit c = true) : c < 6 := by
  apply Classical.byContradiction
  intro q
  have : L < 2 ^ c := Nat.lt_of_lt_of_le hL (by
    have := Nat.pow_le_pow_right (n := 2) (by omega) (show 6 ≤ c by omega)
    omega)
  rw [Nat.testBit_lt_two_pow this] at h; cases h
theorem zero64_ : ∀ L, L < 64 → (∀ b, b < 6 → L.testBit b = false) → L = 0 := by decide +kernel
/-- the day goes on well -/
def DQ (t : Nat → Nat) (n i : Nat) (q : Nat × Day) : Prop := q.1 < 64 ∧ (∀ b, q.1.testBit b = true → b < n) ∧ cn (fun b => q.1.testBit b) n + i = n ∧ dK q.2 = i ∧ DI t q.2 ∧ (0 < i → 1 ≤ dRo q.2) ∧ dF q.2 ≤ 200 + 500 * i ∧ dR q.2 ≤ 1 ∧ (∀ j, j < i → dP q.2 j < n) ∧ ∀ b, dS q.2 b ≤ 200 + 500 * i
theorem DQ.some {t : Nat → Nat} {n i : Nat} {q : Nat × Day} (h : DQ t n i q) (hi : i < n) : ∃ b, b < n ∧ q.1.testBit b = true := cn_pos (S := fun b => q.1.testBit b) n (by have := h.2.2.1; omega)
theorem DQ.none {t : Nat → Nat} {n i : Nat} {q : Nat × Day} (h : DQ t n i q) (hi : i = n) : q.1 = 0 := by
  refine zero64_ _ h.1 (fun b _ => ?_)
  cases hb : q.1.testBit b with
  | false => rfl
  | true =>
    have h1 := h.2.1 b hb
    have h2 := cn_zero (S := fun b => q.1.testBit b) n (by have := h.2.2.1; omega) b h1
    rw [show q.1.testBit b = false from h2] at hb; cases hb
theorem dBeg_le {t : Nat → Nat} (hT : TB t) (d : Day) (b : Nat) : dBeg t d b ≤ (if dF d < 200 then 200 else dF d) + 200 := by
  have h1 := hT 1
  have h2 := hT (6 + 6 * b + 2)
  unfold dBeg
  (repeat' split) <;> omega
theorem dPick_in {t : Nat → Nat} {n law cg L : Nat} {d : Day} (hn : n ≤ 6) (hT : TB t) (hL : ∃ b, b < n ∧ L.testBit b = true) : dPick t n law cg L d < n ∧ L.testBit (dPick t n law cg L d) = true ∧ cnt t (dPick t n law cg L d) ≤ dFree t n L d := by
  obtain ⟨p1, p2, -⟩ := ea_some (key := fun b => 1000 * dRank t n law cg (dC t L (dFree t n L d)) d b + cnt t b) (by omega) (free_C (d := d) hT hL)
  have hdef : dPick t n law cg L d = ea (dC t L (dFree t n L d)) (fun b => 1000 * dRank t n law cg (dC t L (dFree t n L d)) d b + cnt t b) n := rfl
  rw [← hdef] at p1 p2
  have : L.testBit (dPick t n law cg L d) = true ∧ cnt t (dPick t n law cg L d) ≤ dFree t n L d := by simpa [dC] using p2
  exact ⟨p1, this⟩
theorem DQ.step {t : Nat → Nat} {n i law cg : Nat} {q : Nat × Day} (hn : n ≤ 6) (hw : WT t) (h : DQ t n i q) (hi : i < n) : DQ t n (i + 1) (dStep t n law cg q) := by
  obtain ⟨L, d⟩ := q
  have hs := h.some hi
  obtain ⟨h1, h2, h3, h4, h5, h6, h7, h8, h9, h10⟩ := h
  dsimp only at h1 h2 h3 h4 h5 h6 h7 h8 h9 h10 hs
  obtain ⟨p1, p2, p3⟩ := dPick_in (law := law) (cg := cg) (d := d) hn hw.1 hs
  have hfr := dFree_le (d := d) hw.1 hs
  unfold dStep
  dsimp only
  generalize dPick t n law cg L d = b at p1 p2 p3
  generalize dFree t n L d = f at p3 hfr
  have hwb := hw.2.2.2.2.2 b (by omega)
  have hbg := dBeg_le hw.1 (dSet d f) b
  have hf' : dF (dSet d f) = f := rfl
  rw [hf'] at hbg
  have ht0 := hw.1 0
  have hbg2 : dBeg t (dSet d f) b ≤ 400 + 500 * i := by
    split at hbg <;> split at hfr <;> omega
  refine ⟨clr_lt b h1, fun c hc => ?_, ?_, ?_, ?_, ?_, ?_, ?_, ?_, ?_⟩
  · have hc6 := bits64 (clr_lt b h1) hc
    rw [clr_bit h1 (by omega) hc6] at hc
    exact h2 c (by simp at hc; exact hc.1)
  · have := cn_clr_ n (by omega) L h1 b p1 p2
    dsimp only
    omega
  · show dK d + 1 = i + 1
    omega
  · obtain ⟨g1, g2, g3, g4⟩ := h5
    refine ⟨fun e => ?_, fun k e => ?_, fun e => ?_, fun k e => ?_⟩
    · exact absurd e (Nat.succ_ne_zero _)
    · have e' : k = dK d := by have e2 : dK d + 1 = k + 1 := e; omega
      show t (6 + 6 * b) = t (6 + 6 * up (dP d) (dK d) b k)
      rw [e']; simp [up]
    · have e' : dK d = 0 := by have e2 : dK d + 1 = 1 := e; omega
      show (if t (6 + 6 * b) = dLa d then dRo d + 1 else 1) = 1
      rw [if_neg]
      have := (g1 e').1
      omega
    · have e' : dK d = k + 1 := by have e2 : dK d + 1 = k + 2 := e; omega
      have gl := g2 k e'
      show 2 ≤ (if t (6 + 6 * b) = dLa d then dRo d + 1 else 1) ↔ t (6 + 6 * up (dP d) (dK d) b k) = t (6 + 6 * b)
      have hu : up (dP d) (dK d) b k = dP d k := by unfold up; rw [if_neg (by omega)]
      rw [hu, ← gl]
      have := h6 (by omega)
      split <;> omega
  · intro _
    show 1 ≤ (if t (6 + 6 * b) = dLa d then dRo d + 1 else 1)
    split <;> omega
  · show dBeg t (dSet d f) b + t 0 ≤ _
    omega
  · show 1 - t (6 + 6 * b) ≤ 1
    omega
  · intro j hj
    show up (dP d) (dK d) b j < n
    unfold up
    split
    · exact p1
    · exact h9 j (by omega)
  · intro c
    show up (dS d) b (dBeg t (dSet d f) b - t (6 + 6 * b + 2)) c ≤ _
    unfold up
    have := h10 c
    split <;> omega
theorem dIt_ok {t : Nat → Nat} {n law cg : Nat} (hn : n ≤ 6) (hw : WT t) : ∀ i, i ≤ n → DQ t n i (dIt t n law cg i)
  | 0, _ => by
    have h64 := pow_le64 hn
    have hp : 1 ≤ 2 ^ n := Nat.one_le_two_pow
    refine ⟨?_, fun b hb => ?_, ?_, rfl, ?_, fun h => absurd h (Nat.lt_irrefl _), ?_, ?_, fun j hj => absurd hj (Nat.not_lt_zero _), fun b => Nat.zero_le _⟩
    · show 2 ^ n - 1 < 64; omega
    · have hb' : (2 ^ n - 1).testBit b = true := hb
      rw [Nat.testBit_two_pow_sub_one] at hb'
      simpa using hb'
    · exact cn_full_ n (by omega)
    · refine ⟨fun _ => ⟨rfl, rfl⟩, fun k e => ?_, fun e => ?_, fun k e => ?_⟩
      · exact absurd e (Nat.succ_ne_zero k).symm
      · exact absurd (show (0 : Nat) = 1 from e) (by decide)
      · exact absurd e (Nat.succ_ne_zero _).symm
    · exact Nat.zero_le _
    · exact hw.2.2.1
  | i + 1, h => (dIt_ok hn hw i (by omega)).step hn hw (by omega)
theorem DM_let {t : Nat → Nat} {v1 v2 : Mem} {n L b : Nat} {d : Day} (hn : n ≤ 6) (hL : L < 64) (hb : b < 6) (h : DM v1 n L d) (g : LtP t d b v1 v2) : DM v2 n (clr L b) (dLet t d b) := by
  obtain ⟨h1, h2, h3, h4, h5, h6, h7⟩ := h
  obtain ⟨g0, g1, g2, g3, g4, g5, g6, g7, g8⟩ := g
  refine ⟨g1, g2, g3, g4, g5, fun i hi => ?_, fun c hc hLc => ?_⟩
  · rw [g6 i]
    show _ = nI (up (dP d) (dK d) b i)
    unfold up
    have hi' : i < dK d + 1 := hi
    by_cases e : i = dK d
    · rw [if_pos e, if_pos e]
    · rw [if_neg e, if_neg e]; exact h6 i (by omega)
  · rw [g7 c, g8 c]
    show _ = nI (up (dD d) b _ c) ∧ _ = nI (up (dS d) b _ c)
    unfold up
    by_cases e : c = b
    · rw [if_pos e, if_pos e, if_pos e, if_pos e]; exact ⟨rfl, rfl⟩
    · rw [if_neg e, if_neg e, if_neg e, if_neg e]
      refine h7 c hc ?_
      rw [clr_bit hL hb (by omega)] at hLc
      simpa [e] using hLc
theorem DM_set {v : Mem} {n L f : Nat} {d : Day} (h : DM v n L d) : DM (st2 v 0 22 (nI f)) n L (dSet d f) := by
  obtain ⟨h1, h2, h3, h4, h5, h6, h7⟩ := h
  exact ⟨h1, rfl, h3, h4, h5, h6, h7⟩
theorem dSet_same {d : Day} {f : Nat} (h : dF d = f) : dSet d f = d := by
  subst h; rfl
theorem DM_open {v v' : Mem} {t : Nat → Nat} {n : Nat} (h : offD v v' ∧ v' 0 21 = nI 0 ∧ v' 0 22 = nI 0 ∧ v' 0 23 = nI (t 2) ∧ v' 0 24 = nI 0 ∧ v' 0 25 = nI 0) : DM v' n (2 ^ n - 1) (dOpen t) := by
  obtain ⟨h0, h1, h2, h3, h4, h5⟩ := h
  refine ⟨h1, h2, h3, h4, h5, fun i hi => absurd hi (Nat.not_lt_zero _), fun b hb hL => ?_⟩
  rw [Nat.testBit_two_pow_sub_one] at hL
  simp [hb] at hL
theorem tk_0 {t : Nat → Nat} {n cg L : Nat} {d : Day} (h : t 3 = 0) : L = tkM t n (t 3) cg L d := by unfold tkM; rw [if_neg (by omega), if_pos h]
theorem tk_3 {t : Nat → Nat} {n cg L : Nat} {d : Day} (h : t 3 = 3) : (lcF (fun b => L.testBit b) (ct t cg) n).2 = tkM t n (t 3) cg L d := by unfold tkM; rw [if_pos h]
theorem tk_w {t : Nat → Nat} {n cg L sd : Nat} {d : Day} (h0 : t 3 ≠ 0) (h3 : t 3 ≠ 3) (h : sd = dWant t n (t 3) (fun b => L.testBit b) d) : prefM t n L sd = tkM t n (t 3) cg L d := by unfold tkM; rw [if_neg h3, if_neg h0, h]
theorem wn_1 {t : Nat → Nat} {n : Nat} {S : Nat → Bool} {d : Day} (h : t 3 = 1) : dR d = dWant t n (t 3) S d := by unfold dWant; rw [if_neg (by omega), if_neg (by omega)]
theorem wn_2 {t : Nat → Nat} {n sd : Nat} {S : Nat → Bool} {d : Day} (h : t 3 = 2) (hs : sd = if dLa d = 2 then dR d else if 2 ≤ dRo d then 1 - dLa d else dLa d) : sd = dWant t n (t 3) S d := by unfold dWant; rw [if_pos h]; exact hs
theorem wn_4 {t : Nat → Nat} {n sd : Nat} {S : Nat → Bool} {d : Day} (h : t 3 = 4) (hs : sd = if cn (fun b => S b && decide (t (6 + 6 * b) = 0)) n = cn (fun b => S b && decide (t (6 + 6 * b) = 1)) n then dR d else if cn (fun b => S b && decide (t (6 + 6 * b) = 1)) n < cn (fun b => S b && decide (t (6 + 6 * b) = 0)) n then 0 else 1) : sd = dWant t n (t 3) S d := by unfold dWant; rw [if_neg (by omega), if_pos h]; exact hs
theorem w2_0 {t : Nat → Nat} {d : Day} (hD : DI t d) (h : dK d = 0) : t 2 = if dLa d = 2 then dR d else if 2 ≤ dRo d then 1 - dLa d else dLa d := by
  have := hD.1 h
  rw [if_pos this.1, this.2]
theorem w2_1 {t : Nat → Nat} {d : Day} (hD : DI t d) (h : dK d ≠ 0) (h1 : dK d ≤ 1) (hs : t (6 + 6 * dP d (dK d - 1)) ≤ 1) : t (6 + 6 * dP d (dK d - 1)) = if dLa d = 2 then dR d else if 2 ≤ dRo d then 1 - dLa d else dLa d := by
  have e : dK d = 0 + 1 := by omega
  have a := hD.2.1 0 e
  have b := hD.2.2.1 e
  have e2 : dK d - 1 = 0 := by omega
  rw [e2] at hs ⊢
  rw [if_neg (by omega), if_neg (by omega), a]
theorem w2_2 {t : Nat → Nat} {d : Day} (hD : DI t d) (h : 1 < dK d) (hs : t (6 + 6 * dP d (dK d - 1)) ≤ 1) (he : t (6 + 6 * dP d (dK d - 1)) = t (6 + 6 * dP d (dK d - 2))) : 1 - t (6 + 6 * dP d (dK d - 1)) = if dLa d = 2 then dR d else if 2 ≤ dRo d then 1 - dLa d else dLa d := by
  have a := hD.2.1 (dK d - 1) (by omega)
  have b := hD.2.2.2 (dK d - 2) (by omega)
  rw [if_neg (by omega), if_pos (b.mpr (by omega)), a]
theorem w2_3 {t : Nat → Nat} {d : Day} (hD : DI t d) (h : 1 < dK d) (hs : t (6 + 6 * dP d (dK d - 1)) ≤ 1) (he : t (6 + 6 * dP d (dK d - 1)) ≠ t (6 + 6 * dP d (dK d - 2))) : t (6 + 6 * dP d (dK d - 1)) = if dLa d = 2 then dR d else if 2 ≤ dRo d then 1 - dLa d else dLa d := by
  have a := hD.2.1 (dK d - 1) (by omega)
  have b := hD.2.2.2 (dK d - 2) (by omega)
  rw [if_neg (by omega), if_neg (fun q => he (by have := b.mp q; omega)), a]
theorem tkM_64 {t : Nat → Nat} {n law cg L : Nat} {d : Day} (hn : n ≤ 6) (hL : L < 64) : tkM t n law cg L d < 64 := by
  unfold tkM prefM
  have h1 := lcF_lt (fun b => L.testBit b) (ct t cg) n
  have h2 := pow_le64 hn
  split
  · omega
  · split
    · exact hL
    · split
      · exact hL
      · exact mk_64 _ hn
