/-! LockTurns: whom the lock takes -/
set_option maxRecDepth 100000
def kyF (t : Nat → Nat) (n law cg : Nat) (S : Nat → Bool) (d : Day) (b : Nat) : Nat := 1000 * dRank t n law cg S d b + cnt t b
theorem dC_T {t : Nat → Nat} {L f b : Nat} (h : L.testBit b = true) (g : cnt t b ≤ f) : dC t L f b = true := by unfold dC; rw [h]; simp [g]
theorem dC_F1 {t : Nat → Nat} {L f b : Nat} (h : L.testBit b = false) : dC t L f b = false := by unfold dC; rw [h]; rfl
theorem dC_F2 {t : Nat → Nat} {L f b : Nat} (g : f < cnt t b) : dC t L f b = false := by unfold dC; simp; intro _; exact g
theorem i32_ne {x : Int32} (h : x ≠ 0) : x.toInt ≠ 0 := fun g => h (Int32.toInt_inj.mp (g.trans (by decide)))
theorem i32_eq {x : Int32} (h : x = 0) : x.toInt = 0 := by rw [h]; decide
theorem many_step {v : Mem} {t : Nat → Nat} {b x : Nat} {S : Nat → Bool} (hs : t (6 + 6 * b) ≤ 1) (h : ∀ k, k ≤ 1 → v 13 k = nI (cS t b S k)) (hx : x = if S b = true then 1 else 0) : ∀ k, k ≤ 1 → st2 v 13 (t (6 + 6 * b)) (nI (cS t b S (t (6 + 6 * b)) + x)) 13 k = nI (cS t (b + 1) S k) := by
  intro k hk
  by_cases e : k = t (6 + 6 * b)
  · subst e
    rw [st2_same]
    unfold cS
    simp only [cn]
    cases hS : S b <;> simp [hS] at hx ⊢ <;> rw [hx] <;> simp
  · rw [st2_at _ _ _ e, h k hk]
    unfold cS
    simp only [cn]
    have e2 : ¬ t (6 + 6 * b) = k := fun q => e q.symm
    simp [e2]
set_option maxHeartbeats 4000000 in
theorem met_rank_0 (l : Launch) (E : GEnv) (s0 : State) (ad : Nat → Nat) (ro : Nat → Option Nat) (v : Mem) (t : Nat → Nat) (n cg : Nat) (S : Nat → Bool) (d : Day) (q : Nat) (b : Nat) : MyI l yX10_rank cX10_rank 3 (some .int) 0 s0 E vwCl tlA (wX ad) (rX ad ro (some (ad 2))) (rX ad ro (some (ad 2))) [.ref q, .ref (ad 12), .int (nI b)] v (fun x9 v9 => x9 = nI (dRank t n 0 cg S d b) ∧ v9 = v) := by
  refine MetXB.of RX10 [(0, .ref q), (1, .ref (ad 12)), (2, .int (nI b))] (by decide) rfl rfl (Nat.le_of_ble_eq_true rfl) ?_
  intro P9 e9 s9 m9 a9 b9 q9 c9 A9 C hK hr9 hk9 hA hO hAo I ls hl
  refine lv_iconst (v := 0) C.1 C.2.1 dX10_rank_0 (by decide) ?_
  exact g_iret C hr9 hk9 I dX10_rank_1 (⟨rfl, rfl⟩)
set_option maxHeartbeats 4000000 in
theorem met_rank_3 (l : Launch) (E : GEnv) (s0 : State) (ad : Nat → Nat) (ro : Nat → Option Nat) (v : Mem) (t : Nat → Nat) (n cg : Nat) (S : Nat → Bool) (d : Day) (q : Nat) (b : Nat) (hgv : GV v t n cg S d) (hnw : NwV v t) (hT : TB t) (hb : b < 6) (hq : OldO s0 RX9 q) : MyI l yX9_rank cX9_rank 3 (some .int) 1 s0 E vwCl tlA (wX ad) (rX ad ro (some (ad 2))) (rX ad ro (some (ad 2))) [.ref q, .ref (ad 12), .int (nI b)] v (fun x9 v9 => x9 = nI (dRank t n 3 cg S d b) ∧ v9 = v) := by
  refine MetXB.of RX9 [(0, .ref q), (1, .ref (ad 12)), (2, .int (nI b))] (by decide) rfl rfl (Nat.le_of_ble_eq_true rfl) ?_
  intro P9 e9 s9 m9 a9 b9 q9 c9 A9 C hK hr9 hk9 hA hO hAo I ls hl
  refine lv_aload_n C.1 C.2.1 dX9_rank_0 rfl (lv_at hl 0 rfl) ?_
  refine lv_aload_n C.1 C.2.1 dX9_rank_1 rfl (lv_at hl 1 rfl) ?_
  refine lv_iload_n C.1 C.2.1 dX9_rank_2 rfl (lv_at hl 2 rfl) ?_
  refine x_outI hA I (b_runU C hK hO hAo I q cu_X9_9 hq (met_X10_rank l E s0 ad ro v t n cg S d q b ) (Nat.le_of_ble_eq_true rfl) rfl hl.1 rfl (Nat.le_of_ble_eq_true rfl) dX9_rank_3) (fun x_1 v9 H9 L9 hp I => ?_)
  obtain ⟨hx_1, hv9⟩ := hp
  rw [hv9] at I; subst hx_1; clear hv9
  refine lv_aload_n C.1 C.2.1 dX9_rank_6 rfl (lv_at hl 1 rfl) ?_
  refine xg_X9_13_12 C hK I (x := nI cg) hgv.2.2.2.1 dX9_rank_7 ?_
  refine lv_iload_n C.1 C.2.1 dX9_rank_10 rfl (lv_at hl 2 rfl) ?_
  refine x_outI hA I (x_runN C hK hO hAo I cn_X9_19 (met_X0_has l E s0 (wX ad) (rX ad ro (some (ad 2))) v  cg b (by first | assumption | have z0 := hgv.2.2.2.2.2.2.2.2.2; omega) (by first | assumption | have z0 := hgv.2.2.2.2.2.2.2.2.2; omega)) (Nat.le_of_ble_eq_true rfl) rfl hl.1 rfl (Nat.le_of_ble_eq_true rfl) dX9_rank_11) (fun x_2 v9 H9 L9 hp I => ?_)
  rcases hp with ⟨hx_2, b11, hv9⟩ | ⟨hx_2, b11, hv9⟩
  · rw [hv9] at I; subst hx_2; clear hv9
    refine f_if_eq C (by decide) dX9_rank_14 (tgt := 21) (by decide) ?_
    refine lv_iconst (v := 4) C.1 C.2.1 dX9_rank_17 (by decide) ?_
    refine lv_goto (tgt := 50) C.1 C.2.1 dX9_rank_18 (by decide) ?_
    refine e_iadd C (z := 4) (by decide) dX9_rank_50 ?_
    exact g_iret C hr9 hk9 I dX9_rank_51 (⟨by unfold dRank; rw [if_neg (by decide), if_pos rfl]; first | (rw [if_pos b11]; rfl) | (rw [if_neg (by rw [b11]; decide)]; rw [lmx_bit t hb] at b29; first | (rw [if_pos (of_decide_eq_true b29)]; rfl) | (rw [if_neg (of_decide_eq_false b29)]; simp)), rfl⟩)
  · rw [hv9] at I; subst hx_2; clear hv9
    refine t_if_eq C (by decide) dX9_rank_14 (tgt := 21) (by decide) ?_
    refine lv_aload_n C.1 C.2.1 dX9_rank_21 rfl (lv_at hl 1 rfl) ?_
    refine xg_X9_23_12 C hK I dX9_rank_22 ?_
    refine xg_X9_27_2 C hK I (x := nI (lmx t)) hnw.2.2.2 dX9_rank_25 ?_
    refine lv_iload_n C.1 C.2.1 dX9_rank_28 rfl (lv_at hl 2 rfl) ?_
    refine x_outI hA I (x_runN C hK hO hAo I cn_X9_19 (met_X0_has l E s0 (wX ad) (rX ad ro (some (ad 2))) v  (lmx t) b (by first | assumption | have z0 := lmx_64 t; omega) (by first | assumption | have z0 := lmx_64 t; omega)) (Nat.le_of_ble_eq_true rfl) rfl hl.1 rfl (Nat.le_of_ble_eq_true rfl) dX9_rank_29) (fun x_3 v9 H9 L9 hp I => ?_)
    rcases hp with ⟨hx_3, b29, hv9⟩ | ⟨hx_3, b29, hv9⟩
    · rw [hv9] at I; subst hx_3; clear hv9
      refine f_if_eq C (by decide) dX9_rank_32 (tgt := 39) (by decide) ?_
      refine lv_iconst (v := 0) C.1 C.2.1 dX9_rank_35 (by decide) ?_
      refine lv_goto (tgt := 50) C.1 C.2.1 dX9_rank_36 (by decide) ?_
      refine e_iadd C (z := 0) (by decide) dX9_rank_50 ?_
      exact g_iret C hr9 hk9 I dX9_rank_51 (⟨by unfold dRank; rw [if_neg (by decide), if_pos rfl]; first | (rw [if_pos b11]; rfl) | (rw [if_neg (by rw [b11]; decide)]; rw [lmx_bit t hb] at b29; first | (rw [if_pos (of_decide_eq_true b29)]; rfl) | (rw [if_neg (of_decide_eq_false b29)]; simp)), rfl⟩)
    · rw [hv9] at I; subst hx_3; clear hv9
      refine t_if_eq C (by decide) dX9_rank_32 (tgt := 39) (by decide) ?_
      refine lv_aload_n C.1 C.2.1 dX9_rank_39 rfl (lv_at hl 1 rfl) ?_
      refine xg_X9_23_12 C hK I dX9_rank_40 ?_
      refine xg_X9_32_2 C hK I dX9_rank_43 ?_
      refine lv_iload_n C.1 C.2.1 dX9_rank_46 rfl (lv_at hl 2 rfl) ?_
      refine xa_5 C hK I (q := b) (ix_nI (by omega)) (by omega) dX9_rank_47 ?_
      refine lv_iconst (v := 0) C.1 C.2.1 dX9_rank_48 (by decide) ?_
      refine xl_b C hK I (b := b) (by omega) (q := 0) ⟨by decide, rfl⟩ (by decide) (x := nI (t (6 + 6 * b + 1))) (hnw.b (by omega) (k := 0) (by decide)) dX9_rank_49 ?_
      refine n_add C (a := 0) (b := t (6 + 6 * b + 1)) rfl rfl dX9_rank_50 ?_
      exact g_iret C hr9 hk9 I dX9_rank_51 (⟨by unfold dRank; rw [if_neg (by decide), if_pos rfl]; first | (rw [if_pos b11]; rfl) | (rw [if_neg (by rw [b11]; decide)]; rw [lmx_bit t hb] at b29; first | (rw [if_pos (of_decide_eq_true b29)]; rfl) | (rw [if_neg (of_decide_eq_false b29)]; simp)), rfl⟩)
theorem b_rank {p : Program} {l : Launch} {e : Env} {s : State} {m : MethodId} {args : Array Value} {below : List Frame} {meth : Method} {c : Code} {H : Heap} {locs : List Loc} {cc : ByteArray} {pc nL D : Nat} {ls : Array Slot} {rest st0 : List Value} {s0 : State} {E : GEnv} {A : Nat → Prop} {ad : Nat → Nat} {ro : Nat → Option Nat} {v : Mem} {t : Nat → Nat} {n cg k q b : Nat} {S : Nat → Bool} {d : Day}
    (C : CallFix p m c cc nL s args lw_all RX0) (hK : KK E vwCl tlA s) (O : OX s0 (wX ad) s) (hAo : ∀ q, A q → s0.heap.size ≤ q) (I : GI E vwCl (wX ad) (rX ad ro (some (ad 2))) A s.heap v H locs) (hk : k < 5) (hq : OldO s0 (kindR k) q) (hgv : GV v t n cg S d) (hnw : NwV v t) (hT : TB t) (hb : b < 6) (hs1 : t (6 + 6 * b) ≤ 1) (hn6 : n ≤ 6) (hD : 3 ≤ D) (hl : ls.size = nL) (hst : st0 = [Value.ref (ad 12), Value.int (nI b)].reverse ++ .ref q :: rest) (hw : (rest.map fun v => v.category).sum ≤ 8) (dec : decode cc pc = .ok (.invokevirtual 167, 3)) :
    va_Run p l e (rmD D 0 0) s m args below meth c H locs 0 0 0 0 (F0 m pc ls st0) rest (QI E vwCl (wX ad) (rX ad ro (some (ad 2))) (fun x9 v9 => x9 = nI (dRank t n k cg S d b) ∧ v9 = v) (gA (wX ad) H.size) [Value.ref q, Value.ref (ad 12), Value.int (nI b)].toArray) (gA (wX ad) H.size) := by
  rcases (by omega : k = 0 ∨ k = 1 ∨ k = 2 ∨ k = 3 ∨ k = 4) with rfl | rfl | rfl | rfl | rfl
  · exact b_runV C hK O hAo I q co_rank_0 hq (met_rank_0 l E s0 ad ro v t n cg S d q b) (by omega) rfl hl hst hw dec
  · exact b_runV C hK O hAo I q co_rank_1 hq (met_rank_1 l E s0 ad ro v t n cg S d q b hgv hnw hT hb hs1 hq hn6) (by omega) rfl hl hst hw dec
  · exact b_runV C hK O hAo I q co_rank_2 hq (met_rank_2 l E s0 ad ro v t n cg S d q b hgv hnw hT hb hs1 hq hn6) (by omega) rfl hl hst hw dec
  · exact b_runV C hK O hAo I q co_rank_3 hq (met_rank_3 l E s0 ad ro v t n cg S d q b hgv hnw hT hb hq) (by omega) rfl hl hst hw dec
  · exact b_runV C hK O hAo I q co_rank_4 hq (met_rank_4 l E s0 ad ro v t n cg S d q b hgv hnw hT hb hs1 hq hn6) (by omega) rfl hl hst hw dec
set_option maxHeartbeats 4000000 in
theorem met_X0_taken (l : Launch) (E : GEnv) (s0 : State) (ad : Nat → Nat) (ro : Nat → Option Nat) (v : Mem) (t : Nat → Nat) (n k cg : Nat) (d : Day) (q : Nat) (L : Nat) (hnw : NwV v t) (hT : TB t) (hn : v 0 4 = nI n) (hn6 : n ≤ 6) (hL : L < 64) (hF : v 0 11 = nI (dF d)) (hF1 : dF d < 100000) (hR : v 12 1 = nI (dR d)) (hR1 : dR d ≤ 1) (hLa : v 12 2 = enL (dLa d)) (hLa1 : dLa d ≤ 2) (hRo : v 12 3 = nI (dRo d)) (hRo1 : dRo d ≤ 1000) (hcg : v 12 4 = nI cg) (hcg1 : cg < 64) (hk : k < 5) (hq : OldO s0 (kindR k) q) (hwt : WT t) (hex : ∃ b, b < n ∧ (dC t L (dF d)) b = true) : MxI l yX0_taken cX0_taken 6 (some .int) 3 s0 E vwCl tlA (wX ad) (rX ad ro (some (ad 2))) (rX ad ro (some (ad 2))) [.ref (ad 0), .int (nI L), .ref q] v (fun x9 v9 => x9 = nI (ea (dC t L (dF d)) (kyF t n k cg (dC t L (dF d)) d) n) ∧ ∀ j, j ≠ 13 → v9 j = v j) := by
  refine MetX.of RX0 [(0, .ref (ad 0)), (1, .int (nI L)), (2, .ref q)] (by decide) rfl rfl (Nat.le_of_ble_eq_true rfl) ?_
  intro P9 e9 s9 m9 a9 b9 q9 c9 A9 C hK hr9 hk9 hA hO hAo I ls hl
  have hsd : ∀ b, b < 6 → t (6 + 6 * b) ≤ 1 := fun b hb => (hwt.2.2.2.2.2 b hb).1
  refine lv_bipush (v := (-4)) C.1 C.2.1 dX0_taken_0 (by decide) ?_
  refine lv_istore_n (lv' := [(3, .int (-4)), (0, .ref (ad 0)), (1, .int (nI L)), (2, .ref q)]) C.1 C.2.1 dX0_taken_2 rfl hl (Nat.le_of_ble_eq_true rfl) rfl (fun ls hl => ?_)
  refine lv_aload_n C.1 C.2.1 dX0_taken_3 rfl (lv_at hl 1 rfl) ?_
  refine xg_X0_119_0 C hK I dX0_taken_4 ?_
  refine xg_X0_164_12 C hK I dX0_taken_7 ?_
  refine lv_iconst (v := 0) C.1 C.2.1 dX0_taken_10 (by decide) ?_
  refine lv_iconst (v := 0) C.1 C.2.1 dX0_taken_11 (by decide) ?_
  refine xs_13 C hK I (q := 0) ⟨by decide, rfl⟩ (by decide) dX0_taken_12 (fun H9 L9 I => ?_)
  refine lv_aload_n C.1 C.2.1 dX0_taken_13 rfl (lv_at hl 1 rfl) ?_
  refine xg_X0_119_0 C hK I dX0_taken_14 ?_
  refine xg_X0_164_12 C hK I dX0_taken_17 ?_
  refine lv_iconst (v := 1) C.1 C.2.1 dX0_taken_20 (by decide) ?_
  refine lv_iconst (v := 0) C.1 C.2.1 dX0_taken_21 (by decide) ?_
  refine xs_13 C hK I (q := 1) ⟨by decide, rfl⟩ (by decide) dX0_taken_22 (fun H9 L9 I => ?_)
  refine lv_iconst (v := 0) C.1 C.2.1 dX0_taken_23 (by decide) ?_
  refine lv_istore (lv' := [(4, .int 0), (3, .int (-4)), (0, .ref (ad 0)), (1, .int (nI L)), (2, .ref q)]) C.1 C.2.1 dX0_taken_24 hl (Nat.le_of_ble_eq_true rfl) rfl (fun ls hl => ?_)
  have cut26 : ∀ (k9_26 : Nat) (b : Nat) (v1 : Mem) (H9 : Heap) (L9 : List Loc) (ls : Array Slot), (n - b < k9_26) → (b ≤ n) → (∀ j, j ≠ 13 → v1 j = v j) → (∀ k, k ≤ 1 → v1 13 k = nI (cS t b (dC t L (dF d)) k)) → GI E vwCl (wX ad) (rX ad ro (some (ad 2))) A9 s9.heap v1 H9 L9 → lv_has ls 6 [(4, .int (nI b)), (3, .int (-4)), (0, .ref (ad 0)), (1, .int (nI L)), (2, .ref q)] → W P9 l e9 (rmD 3 0 0) s9 m9 a9 b9 q9 c9 H9 L9 0 0 (MQ b9 (QI E vwCl (wX ad) (rX ad ro (some (ad 2))) (fun x9 v9 => x9 = nI (ea (dC t L (dF d)) (kyF t n k cg (dC t L (dF d)) d) n) ∧ ∀ j, j ≠ 13 → v9 j = v j) A9) a9 s9 0 0 A9) (F0 m9 26 ls []) := by
    intro k9_26
    induction k9_26 with
    | zero =>
      intro b v1 H9 L9 ls h9_26
      exact absurd h9_26 (Nat.not_lt_zero _)
    | succ k9_26 ih26 =>
      intro b v1 H9 L9 ls h9_26 hb hm h13 I hl
      refine lv_iload C.1 C.2.1 dX0_taken_26 (lv_at hl 0 rfl) ?_
      refine lv_aload_n C.1 C.2.1 dX0_taken_28 rfl (lv_at hl 2 rfl) ?_
      refine xg_X0_49_0 C hK I (x := nI n) (by rw [hm 0 (by decide)]; exact hn) dX0_taken_29 ?_
      refine n_icmp_ge C (a := b) (b := n) rfl rfl (by omega) (by omega) dX0_taken_32 (tgt := 92) (by decide) (fun c32 => ?_) (fun c32 => ?_)
      · have h13n : ∀ k, k ≤ 1 → v1 13 k = nI (cS t n (dC t L (dF d)) k) := by have e0 : b = n := (by omega); rw [← e0]; exact h13
        have hgv : GV v1 t n cg (dC t L (dF d)) d := ⟨by rw [hm 12 (by decide)]; exact hR, by rw [hm 12 (by decide)]; exact hLa, by rw [hm 12 (by decide)]; exact hRo, by rw [hm 12 (by decide)]; exact hcg, h13n 0 (by decide), h13n 1 (by decide), hR1, hLa1, hRo1, hcg1⟩
        refine lv_iconst (v := 0) C.1 C.2.1 dX0_taken_92 (by decide) ?_
        refine lv_istore (lv' := [(4, .int 0), (3, .int (-4)), (0, .ref (ad 0)), (1, .int (nI L)), (2, .ref q)]) C.1 C.2.1 dX0_taken_93 hl (Nat.le_of_ble_eq_true rfl) rfl (fun ls hl => ?_)
        have cut95 : ∀ (k9_95 : Nat) (b : Nat) (f : Nat) (x : Int32) (H9 : Heap) (L9 : List Loc) (ls : Array Slot), (n - b < k9_95) → (b ≤ n) → (f = ea (dC t L (dF d)) (kyF t n k cg (dC t L (dF d)) d) b) → (x = enc f) → GI E vwCl (wX ad) (rX ad ro (some (ad 2))) A9 s9.heap v1 H9 L9 → lv_has ls 6 [(4, .int (nI b)), (3, .int x), (0, .ref (ad 0)), (1, .int (nI L)), (2, .ref q)] → W P9 l e9 (rmD 3 0 0) s9 m9 a9 b9 q9 c9 H9 L9 0 0 (MQ b9 (QI E vwCl (wX ad) (rX ad ro (some (ad 2))) (fun x9 v9 => x9 = nI (ea (dC t L (dF d)) (kyF t n k cg (dC t L (dF d)) d) n) ∧ ∀ j, j ≠ 13 → v9 j = v j) A9) a9 s9 0 0 A9) (F0 m9 95 ls []) := by
          intro k9_95
          induction k9_95 with
          | zero =>
            intro b f x H9 L9 ls h9_95
            exact absurd h9_95 (Nat.not_lt_zero _)
          | succ k9_95 ih95 =>
            intro b f x H9 L9 ls h9_95 hb ef ex I hl
            refine lv_iload C.1 C.2.1 dX0_taken_95 (lv_at hl 0 rfl) ?_
            refine lv_aload_n C.1 C.2.1 dX0_taken_97 rfl (lv_at hl 2 rfl) ?_
            refine xg_X0_49_0 C hK I (x := nI n) (by rw [hm 0 (by decide)]; exact hn) dX0_taken_98 ?_
            refine n_icmp_ge C (a := b) (b := n) rfl rfl (by omega) (by omega) dX0_taken_101 (tgt := 209) (by decide) (fun c101 => ?_) (fun c101 => ?_)
            · refine lv_iload_n C.1 C.2.1 dX0_taken_209 rfl (lv_at hl 1 rfl) ?_
              exact g_iret C hr9 hk9 I dX0_taken_210 (⟨by obtain ⟨z0, z1, z2⟩ := hex; have z3 := ea_some (S := (dC t L (dF d))) (key := (kyF t n k cg (dC t L (dF d)) d)) (n := n) (by omega) ⟨z0, z1, z2⟩; rw [ex, ef, show b = n by omega, enc_nI (by omega)], hm⟩)
            · refine lv_iload_n C.1 C.2.1 dX0_taken_104 rfl (lv_at hl 3 rfl) ?_
              refine lv_iload C.1 C.2.1 dX0_taken_105 (lv_at hl 0 rfl) ?_
              refine x_outI hA I (x_runS C hK hO hAo I cs_X0_157 (met_X0_has l E s0 (wX ad) (rX ad ro (some (ad 2))) v1  L b (by first | assumption | omega) (by first | assumption | omega)) (Nat.le_of_ble_eq_true rfl) rfl hl.1 rfl (Nat.le_of_ble_eq_true rfl) dX0_taken_107) (fun x_1 v9 H9 L9 hp I => ?_)
              rcases hp with ⟨hx_1, b107, hv9⟩ | ⟨hx_1, b107, hv9⟩
              · rw [hv9] at I; subst hx_1; clear hv9
                refine f_if_eq C (by decide) dX0_taken_110 (tgt := 203) (by decide) ?_
                refine lv_aload_n C.1 C.2.1 dX0_taken_113 rfl (lv_at hl 2 rfl) ?_
                refine xg_X0_33_0 C hK I dX0_taken_114 ?_
                refine lv_iload C.1 C.2.1 dX0_taken_117 (lv_at hl 0 rfl) ?_
                refine x_outI hA I (x_runV C hK hO hAo I 2 cv_X0_97 rfl (Nat.le_of_ble_eq_true rfl) rfl (met_X1_counts l E s0 (wX ad) (rX ad ro (some (ad 2))) v1 2 t b (told_2 ad ro _) (hnw.off (fun i h1 h2 => hm i (by omega))) hT (by first | assumption | omega)) (Nat.le_of_ble_eq_true rfl) rfl hl.1 rfl (Nat.le_of_ble_eq_true rfl) dX0_taken_119) (fun x_2 v9 H9 L9 hp I => ?_)
                obtain ⟨hx_2, hv9⟩ := hp
                rw [hv9] at I; subst hx_2; clear hv9
                refine lv_aload_n C.1 C.2.1 dX0_taken_122 rfl (lv_at hl 2 rfl) ?_
                refine xg_X0_141_0 C hK I (x := nI (dF d)) (by rw [hm 0 (by decide)]; exact hF) dX0_taken_123 ?_
                refine n_icmp_gt C (a := cnt t b) (b := dF d) rfl rfl (by have z0 := hT b; have z1 := cnt_le hT b; omega) (by omega) dX0_taken_126 (tgt := 203) (by decide) (fun c126 => ?_) (fun c126 => ?_)
                · have kS : (dC t L (dF d)) b = false := dC_F2 c126
                  refine lv_iinc (v := nI (b + 1)) (lv' := [(4, .int (nI (b + 1))), (3, .int x), (0, .ref (ad 0)), (1, .int (nI L)), (2, .ref q)]) C.1 C.2.1 dX0_taken_203 hl (k := 0) rfl (nI_add _ 1) (Nat.le_of_ble_eq_true rfl) rfl (fun ls hl => ?_)
                  refine lv_goto (tgt := 95) C.1 C.2.1 dX0_taken_206 (by decide) ?_
                  exact ih95 (b + 1) f x _ _ _ (by omega) (by first | assumption | omega) (by have z1 := cnt_le hT b; have z2 := cnt_le hT f; first | exact ea_T (by assumption) (by rw [← ef]; unfold kyF; omega) | (rw [ef]; exact ea_F (by rw [← ef]; first | exact Or.inl (by assumption) | (right; unfold kyF; omega)))) (by first | assumption | exact (enc_nI (by omega)).symm) I (lv_sub hl [0, 1, 2, 3, 4] rfl)
                · have kS : (dC t L (dF d)) b = true := dC_T b107 c126
                  refine lv_iload_n C.1 C.2.1 dX0_taken_129 rfl (lv_at hl 1 rfl) ?_
                  refine lv_bipush (v := (-4)) C.1 C.2.1 dX0_taken_130 (by decide) ?_
                  refine z_icmp_ne C dX0_taken_132 (tgt := 139) (by decide) (fun c132 => ?_) (fun c132 => ?_)
                  · have k132 : f ≠ 100 := enc_ne (by rw [← ex]; exact c132)
                    have hf := ea_lt (dC t L (dF d)) (kyF t n k cg (dC t L (dF d)) d) b; rw [← ef] at hf
                    obtain rfl : x = nI f := by rw [ex, enc_nI k132]
                    refine lv_aload_n C.1 C.2.1 dX0_taken_139 rfl (lv_at hl 4 rfl) ?_
                    refine lv_aload_n C.1 C.2.1 dX0_taken_140 rfl (lv_at hl 2 rfl) ?_
                    refine xg_X0_119_0 C hK I dX0_taken_141 ?_
                    refine lv_iload C.1 C.2.1 dX0_taken_144 (lv_at hl 0 rfl) ?_
                    refine x_outI hA I (b_rank (b := b) C hK hO hAo I hk hq hgv (hnw.off (fun i h1 h2 => hm i (by omega))) hT (by omega) (hsd _ (by omega)) hn6 (Nat.le_of_ble_eq_true rfl) hl.1 rfl (Nat.le_of_ble_eq_true rfl) dX0_taken_146) (fun x_3 v9 H9 L9 hp I => ?_)
                    obtain ⟨hx_3, hv9⟩ := hp
                    rw [hv9] at I; subst hx_3; clear hv9
                    refine lv_aload_n C.1 C.2.1 dX0_taken_149 rfl (lv_at hl 4 rfl) ?_
                    refine lv_aload_n C.1 C.2.1 dX0_taken_150 rfl (lv_at hl 2 rfl) ?_
                    refine xg_X0_119_0 C hK I dX0_taken_151 ?_
                    refine lv_iload_n C.1 C.2.1 dX0_taken_154 rfl (lv_at hl 1 rfl) ?_
                    refine x_outI hA I (b_rank (b := f) C hK hO hAo I hk hq hgv (hnw.off (fun i h1 h2 => hm i (by omega))) hT (by omega) (hsd _ (by omega)) hn6 (Nat.le_of_ble_eq_true rfl) hl.1 rfl (Nat.le_of_ble_eq_true rfl) dX0_taken_155) (fun x_4 v9 H9 L9 hp I => ?_)
                    obtain ⟨hx_4, hv9⟩ := hp
                    rw [hv9] at I; subst hx_4; clear hv9
                    refine lv_isub C.1 C.2.1 dX0_taken_158 ?_
                    refine lv_istore (lv' := [(5, .int ((nI (dRank t n k cg (dC t L (dF d)) d b)) - (nI (dRank t n k cg (dC t L (dF d)) d f)))), (4, .int (nI b)), (3, .int (nI f)), (0, .ref (ad 0)), (1, .int (nI L)), (2, .ref q)]) C.1 C.2.1 dX0_taken_159 hl (Nat.le_of_ble_eq_true rfl) rfl (fun ls hl => ?_)
                    refine lv_iload C.1 C.2.1 dX0_taken_161 (lv_at hl 0 rfl) ?_
                    refine z_if_ne C dX0_taken_163 (tgt := 187) (by decide) (fun c163 => ?_) (fun c163 => ?_)
                    · have e163 : ((nI (dRank t n k cg (dC t L (dF d)) d b)) - (nI (dRank t n k cg (dC t L (dF d)) d f))).toInt = ((dRank t n k cg (dC t L (dF d)) d b : Nat) : Int) - ((dRank t n k cg (dC t L (dF d)) d f : Nat) : Int) := pk_sub_toInt (a := dRank t n k cg (dC t L (dF d)) d b) (b := dRank t n k cg (dC t L (dF d)) d f) (by have z0 := hT n; have z1 := hT L; have z2 := dRank_le hwt (b := b) (t := t) (n := n) (law := k) (cg := cg) (C := dC t L (dF d)) (d := d) (by omega); omega) (by have z0 := hT n; have z1 := hT L; have z2 := dRank_le hwt (b := f) (t := t) (n := n) (law := k) (cg := cg) (C := dC t L (dF d)) (d := d) (by omega); omega)
                      have k163 := i32_ne c163; rw [e163] at k163
                      refine lv_iload C.1 C.2.1 dX0_taken_187 (lv_at hl 0 rfl) ?_
                      refine lv_istore (lv' := [(5, .int ((nI (dRank t n k cg (dC t L (dF d)) d b)) - (nI (dRank t n k cg (dC t L (dF d)) d f)))), (4, .int (nI b)), (3, .int (nI f)), (0, .ref (ad 0)), (1, .int (nI L)), (2, .ref q)]) C.1 C.2.1 dX0_taken_189 hl (Nat.le_of_ble_eq_true rfl) rfl (fun ls hl => ?_)
                      refine lv_iload C.1 C.2.1 dX0_taken_191 (lv_at hl 0 rfl) ?_
                      refine z_if_ge C dX0_taken_193 (tgt := 201) (by decide) (fun c193 => ?_) (fun c193 => ?_)
                      · have e193 : ((nI (dRank t n k cg (dC t L (dF d)) d b)) - (nI (dRank t n k cg (dC t L (dF d)) d f))).toInt = ((dRank t n k cg (dC t L (dF d)) d b : Nat) : Int) - ((dRank t n k cg (dC t L (dF d)) d f : Nat) : Int) := pk_sub_toInt (a := dRank t n k cg (dC t L (dF d)) d b) (b := dRank t n k cg (dC t L (dF d)) d f) (by have z0 := hT n; have z1 := hT L; have z2 := dRank_le hwt (b := b) (t := t) (n := n) (law := k) (cg := cg) (C := dC t L (dF d)) (d := d) (by omega); omega) (by have z0 := hT n; have z1 := hT L; have z2 := dRank_le hwt (b := f) (t := t) (n := n) (law := k) (cg := cg) (C := dC t L (dF d)) (d := d) (by omega); omega)
                        refine lv_iload_n C.1 C.2.1 dX0_taken_201 rfl (lv_at hl 2 rfl) ?_
                        refine lv_istore_n (lv' := [(3, .int (nI f)), (5, .int ((nI (dRank t n k cg (dC t L (dF d)) d b)) - (nI (dRank t n k cg (dC t L (dF d)) d f)))), (4, .int (nI b)), (0, .ref (ad 0)), (1, .int (nI L)), (2, .ref q)]) C.1 C.2.1 dX0_taken_202 rfl hl (Nat.le_of_ble_eq_true rfl) rfl (fun ls hl => ?_)
                        refine lv_iinc (v := nI (b + 1)) (lv' := [(4, .int (nI (b + 1))), (3, .int (nI f)), (5, .int ((nI (dRank t n k cg (dC t L (dF d)) d b)) - (nI (dRank t n k cg (dC t L (dF d)) d f)))), (0, .ref (ad 0)), (1, .int (nI L)), (2, .ref q)]) C.1 C.2.1 dX0_taken_203 hl (k := 2) rfl (nI_add _ 1) (Nat.le_of_ble_eq_true rfl) rfl (fun ls hl => ?_)
                        refine lv_goto (tgt := 95) C.1 C.2.1 dX0_taken_206 (by decide) ?_
                        exact ih95 (b + 1) f (nI f) _ _ _ (by omega) (by first | assumption | omega) (by have z1 := cnt_le hT b; have z2 := cnt_le hT f; first | exact ea_T (by assumption) (by rw [← ef]; unfold kyF; omega) | (rw [ef]; exact ea_F (by rw [← ef]; first | exact Or.inl (by assumption) | (right; unfold kyF; omega)))) (by first | assumption | exact (enc_nI (by omega)).symm) I (lv_sub hl [0, 1, 3, 4, 5] rfl)
                      · have e193 : ((nI (dRank t n k cg (dC t L (dF d)) d b)) - (nI (dRank t n k cg (dC t L (dF d)) d f))).toInt = ((dRank t n k cg (dC t L (dF d)) d b : Nat) : Int) - ((dRank t n k cg (dC t L (dF d)) d f : Nat) : Int) := pk_sub_toInt (a := dRank t n k cg (dC t L (dF d)) d b) (b := dRank t n k cg (dC t L (dF d)) d f) (by have z0 := hT n; have z1 := hT L; have z2 := dRank_le hwt (b := b) (t := t) (n := n) (law := k) (cg := cg) (C := dC t L (dF d)) (d := d) (by omega); omega) (by have z0 := hT n; have z1 := hT L; have z2 := dRank_le hwt (b := f) (t := t) (n := n) (law := k) (cg := cg) (C := dC t L (dF d)) (d := d) (by omega); omega)
                        refine lv_iload C.1 C.2.1 dX0_taken_196 (lv_at hl 1 rfl) ?_
                        refine lv_goto (tgt := 202) C.1 C.2.1 dX0_taken_198 (by decide) ?_
                        refine lv_istore_n (lv' := [(3, .int (nI b)), (5, .int ((nI (dRank t n k cg (dC t L (dF d)) d b)) - (nI (dRank t n k cg (dC t L (dF d)) d f)))), (4, .int (nI b)), (0, .ref (ad 0)), (1, .int (nI L)), (2, .ref q)]) C.1 C.2.1 dX0_taken_202 rfl hl (Nat.le_of_ble_eq_true rfl) rfl (fun ls hl => ?_)
                        refine lv_iinc (v := nI (b + 1)) (lv' := [(4, .int (nI (b + 1))), (3, .int (nI b)), (5, .int ((nI (dRank t n k cg (dC t L (dF d)) d b)) - (nI (dRank t n k cg (dC t L (dF d)) d f)))), (0, .ref (ad 0)), (1, .int (nI L)), (2, .ref q)]) C.1 C.2.1 dX0_taken_203 hl (k := 2) rfl (nI_add _ 1) (Nat.le_of_ble_eq_true rfl) rfl (fun ls hl => ?_)
                        refine lv_goto (tgt := 95) C.1 C.2.1 dX0_taken_206 (by decide) ?_
                        exact ih95 (b + 1) b (nI b) _ _ _ (by omega) (by first | assumption | omega) (by have z1 := cnt_le hT b; have z2 := cnt_le hT f; first | exact ea_T (by assumption) (by rw [← ef]; unfold kyF; omega) | (rw [ef]; exact ea_F (by rw [← ef]; first | exact Or.inl (by assumption) | (right; unfold kyF; omega)))) (by first | assumption | exact (enc_nI (by omega)).symm) I (lv_sub hl [0, 1, 3, 4, 5] rfl)
                    · have e163 : ((nI (dRank t n k cg (dC t L (dF d)) d b)) - (nI (dRank t n k cg (dC t L (dF d)) d f))).toInt = ((dRank t n k cg (dC t L (dF d)) d b : Nat) : Int) - ((dRank t n k cg (dC t L (dF d)) d f : Nat) : Int) := pk_sub_toInt (a := dRank t n k cg (dC t L (dF d)) d b) (b := dRank t n k cg (dC t L (dF d)) d f) (by have z0 := hT n; have z1 := hT L; have z2 := dRank_le hwt (b := b) (t := t) (n := n) (law := k) (cg := cg) (C := dC t L (dF d)) (d := d) (by omega); omega) (by have z0 := hT n; have z1 := hT L; have z2 := dRank_le hwt (b := f) (t := t) (n := n) (law := k) (cg := cg) (C := dC t L (dF d)) (d := d) (by omega); omega)
                      have k163 := i32_eq c163; rw [e163] at k163
                      refine lv_aload_n C.1 C.2.1 dX0_taken_166 rfl (lv_at hl 3 rfl) ?_
                      refine xg_X0_33_0 C hK I dX0_taken_167 ?_
                      refine lv_iload C.1 C.2.1 dX0_taken_170 (lv_at hl 1 rfl) ?_
                      refine x_outI hA I (x_runV C hK hO hAo I 2 cv_X0_97 rfl (Nat.le_of_ble_eq_true rfl) rfl (met_X1_counts l E s0 (wX ad) (rX ad ro (some (ad 2))) v1 2 t b (told_2 ad ro _) (hnw.off (fun i h1 h2 => hm i (by omega))) hT (by first | assumption | omega)) (Nat.le_of_ble_eq_true rfl) rfl hl.1 rfl (Nat.le_of_ble_eq_true rfl) dX0_taken_172) (fun x_5 v9 H9 L9 hp I => ?_)
                      obtain ⟨hx_5, hv9⟩ := hp
                      rw [hv9] at I; subst hx_5; clear hv9
                      refine lv_aload_n C.1 C.2.1 dX0_taken_175 rfl (lv_at hl 3 rfl) ?_
                      refine xg_X0_33_0 C hK I dX0_taken_176 ?_
                      refine lv_iload_n C.1 C.2.1 dX0_taken_179 rfl (lv_at hl 2 rfl) ?_
                      refine x_outI hA I (x_runV C hK hO hAo I 2 cv_X0_97 rfl (Nat.le_of_ble_eq_true rfl) rfl (met_X1_counts l E s0 (wX ad) (rX ad ro (some (ad 2))) v1 2 t f (told_2 ad ro _) (hnw.off (fun i h1 h2 => hm i (by omega))) hT (by first | assumption | omega)) (Nat.le_of_ble_eq_true rfl) rfl hl.1 rfl (Nat.le_of_ble_eq_true rfl) dX0_taken_180) (fun x_6 v9 H9 L9 hp I => ?_)
                      obtain ⟨hx_6, hv9⟩ := hp
                      rw [hv9] at I; subst hx_6; clear hv9
                      refine lv_isub C.1 C.2.1 dX0_taken_183 ?_
                      refine lv_goto (tgt := 189) C.1 C.2.1 dX0_taken_184 (by decide) ?_
                      refine lv_istore (lv' := [(5, .int ((nI (cnt t b)) - (nI (cnt t f)))), (4, .int (nI b)), (3, .int (nI f)), (0, .ref (ad 0)), (1, .int (nI L)), (2, .ref q)]) C.1 C.2.1 dX0_taken_189 hl (Nat.le_of_ble_eq_true rfl) rfl (fun ls hl => ?_)
                      refine lv_iload C.1 C.2.1 dX0_taken_191 (lv_at hl 0 rfl) ?_
                      refine z_if_ge C dX0_taken_193 (tgt := 201) (by decide) (fun c193 => ?_) (fun c193 => ?_)
                      · have e193 : ((nI (cnt t b)) - (nI (cnt t f))).toInt = ((cnt t b : Nat) : Int) - ((cnt t f : Nat) : Int) := pk_sub_toInt (a := cnt t b) (b := cnt t f) (by have z0 := hT b; have z1 := cnt_le hT b; omega) (by have z0 := hT f; have z1 := cnt_le hT f; omega)
                        refine lv_iload_n C.1 C.2.1 dX0_taken_201 rfl (lv_at hl 2 rfl) ?_
                        refine lv_istore_n (lv' := [(3, .int (nI f)), (5, .int ((nI (cnt t b)) - (nI (cnt t f)))), (4, .int (nI b)), (0, .ref (ad 0)), (1, .int (nI L)), (2, .ref q)]) C.1 C.2.1 dX0_taken_202 rfl hl (Nat.le_of_ble_eq_true rfl) rfl (fun ls hl => ?_)
                        refine lv_iinc (v := nI (b + 1)) (lv' := [(4, .int (nI (b + 1))), (3, .int (nI f)), (5, .int ((nI (cnt t b)) - (nI (cnt t f)))), (0, .ref (ad 0)), (1, .int (nI L)), (2, .ref q)]) C.1 C.2.1 dX0_taken_203 hl (k := 2) rfl (nI_add _ 1) (Nat.le_of_ble_eq_true rfl) rfl (fun ls hl => ?_)
                        refine lv_goto (tgt := 95) C.1 C.2.1 dX0_taken_206 (by decide) ?_
                        exact ih95 (b + 1) f (nI f) _ _ _ (by omega) (by first | assumption | omega) (by have z1 := cnt_le hT b; have z2 := cnt_le hT f; first | exact ea_T (by assumption) (by rw [← ef]; unfold kyF; omega) | (rw [ef]; exact ea_F (by rw [← ef]; first | exact Or.inl (by assumption) | (right; unfold kyF; omega)))) (by first | assumption | exact (enc_nI (by omega)).symm) I (lv_sub hl [0, 1, 3, 4, 5] rfl)
                      · have e193 : ((nI (cnt t b)) - (nI (cnt t f))).toInt = ((cnt t b : Nat) : Int) - ((cnt t f : Nat) : Int) := pk_sub_toInt (a := cnt t b) (b := cnt t f) (by have z0 := hT b; have z1 := cnt_le hT b; omega) (by have z0 := hT f; have z1 := cnt_le hT f; omega)
                        refine lv_iload C.1 C.2.1 dX0_taken_196 (lv_at hl 1 rfl) ?_
                        refine lv_goto (tgt := 202) C.1 C.2.1 dX0_taken_198 (by decide) ?_
                        refine lv_istore_n (lv' := [(3, .int (nI b)), (5, .int ((nI (cnt t b)) - (nI (cnt t f)))), (4, .int (nI b)), (0, .ref (ad 0)), (1, .int (nI L)), (2, .ref q)]) C.1 C.2.1 dX0_taken_202 rfl hl (Nat.le_of_ble_eq_true rfl) rfl (fun ls hl => ?_)
                        refine lv_iinc (v := nI (b + 1)) (lv' := [(4, .int (nI (b + 1))), (3, .int (nI b)), (5, .int ((nI (cnt t b)) - (nI (cnt t f)))), (0, .ref (ad 0)), (1, .int (nI L)), (2, .ref q)]) C.1 C.2.1 dX0_taken_203 hl (k := 2) rfl (nI_add _ 1) (Nat.le_of_ble_eq_true rfl) rfl (fun ls hl => ?_)
                        refine lv_goto (tgt := 95) C.1 C.2.1 dX0_taken_206 (by decide) ?_
                        exact ih95 (b + 1) b (nI b) _ _ _ (by omega) (by first | assumption | omega) (by have z1 := cnt_le hT b; have z2 := cnt_le hT f; first | exact ea_T (by assumption) (by rw [← ef]; unfold kyF; omega) | (rw [ef]; exact ea_F (by rw [← ef]; first | exact Or.inl (by assumption) | (right; unfold kyF; omega)))) (by first | assumption | exact (enc_nI (by omega)).symm) I (lv_sub hl [0, 1, 3, 4, 5] rfl)
                  · have hf0 := ea_lt (dC t L (dF d)) (kyF t n k cg (dC t L (dF d)) d) b; rw [← ef] at hf0
                    have k132 : f = 100 := enc_100 (by omega) (by rw [← ex]; exact c132)
                    refine lv_iconst (v := (-1)) C.1 C.2.1 dX0_taken_135 (by decide) ?_
                    refine lv_goto (tgt := 159) C.1 C.2.1 dX0_taken_136 (by decide) ?_
                    refine lv_istore (lv' := [(5, .int (-1)), (4, .int (nI b)), (3, .int x), (0, .ref (ad 0)), (1, .int (nI L)), (2, .ref q)]) C.1 C.2.1 dX0_taken_159 hl (Nat.le_of_ble_eq_true rfl) rfl (fun ls hl => ?_)
                    refine lv_iload C.1 C.2.1 dX0_taken_161 (lv_at hl 0 rfl) ?_
                    refine t_if_ne C (by decide) dX0_taken_163 (tgt := 187) (by decide) ?_
                    refine lv_iload C.1 C.2.1 dX0_taken_187 (lv_at hl 0 rfl) ?_
                    refine lv_istore (lv' := [(5, .int (-1)), (4, .int (nI b)), (3, .int x), (0, .ref (ad 0)), (1, .int (nI L)), (2, .ref q)]) C.1 C.2.1 dX0_taken_189 hl (Nat.le_of_ble_eq_true rfl) rfl (fun ls hl => ?_)
                    refine lv_iload C.1 C.2.1 dX0_taken_191 (lv_at hl 0 rfl) ?_
                    refine f_if_ge C (by decide) dX0_taken_193 (tgt := 201) (by decide) ?_
                    refine lv_iload C.1 C.2.1 dX0_taken_196 (lv_at hl 1 rfl) ?_
                    refine lv_goto (tgt := 202) C.1 C.2.1 dX0_taken_198 (by decide) ?_
                    refine lv_istore_n (lv' := [(3, .int (nI b)), (5, .int (-1)), (4, .int (nI b)), (0, .ref (ad 0)), (1, .int (nI L)), (2, .ref q)]) C.1 C.2.1 dX0_taken_202 rfl hl (Nat.le_of_ble_eq_true rfl) rfl (fun ls hl => ?_)
                    refine lv_iinc (v := nI (b + 1)) (lv' := [(4, .int (nI (b + 1))), (3, .int (nI b)), (5, .int (-1)), (0, .ref (ad 0)), (1, .int (nI L)), (2, .ref q)]) C.1 C.2.1 dX0_taken_203 hl (k := 2) rfl (nI_add _ 1) (Nat.le_of_ble_eq_true rfl) rfl (fun ls hl => ?_)
                    refine lv_goto (tgt := 95) C.1 C.2.1 dX0_taken_206 (by decide) ?_
                    exact ih95 (b + 1) b (nI b) _ _ _ (by omega) (by first | assumption | omega) (by have z1 := cnt_le hT b; have z2 := cnt_le hT f; first | exact ea_T (by assumption) (by rw [← ef]; unfold kyF; omega) | (rw [ef]; exact ea_F (by rw [← ef]; first | exact Or.inl (by assumption) | (right; unfold kyF; omega)))) (by first | assumption | exact (enc_nI (by omega)).symm) I (lv_sub hl [0, 1, 3, 4, 5] rfl)
              · rw [hv9] at I; subst hx_1; clear hv9
                have kS : (dC t L (dF d)) b = false := dC_F1 b107
                refine t_if_eq C (by decide) dX0_taken_110 (tgt := 203) (by decide) ?_
                refine lv_iinc (v := nI (b + 1)) (lv' := [(4, .int (nI (b + 1))), (3, .int x), (0, .ref (ad 0)), (1, .int (nI L)), (2, .ref q)]) C.1 C.2.1 dX0_taken_203 hl (k := 0) rfl (nI_add _ 1) (Nat.le_of_ble_eq_true rfl) rfl (fun ls hl => ?_)
                refine lv_goto (tgt := 95) C.1 C.2.1 dX0_taken_206 (by decide) ?_
                exact ih95 (b + 1) f x _ _ _ (by omega) (by first | assumption | omega) (by have z1 := cnt_le hT b; have z2 := cnt_le hT f; first | exact ea_T (by assumption) (by rw [← ef]; unfold kyF; omega) | (rw [ef]; exact ea_F (by rw [← ef]; first | exact Or.inl (by assumption) | (right; unfold kyF; omega)))) (by first | assumption | exact (enc_nI (by omega)).symm) I (lv_sub hl [0, 1, 2, 3, 4] rfl)
        exact cut95 _ 0 100 (-4) _ _ _ (Nat.lt_succ_self _) (by first | assumption | omega) rfl rfl I (lv_sub hl [0, 1, 2, 3, 4] rfl)
      · refine lv_aload_n C.1 C.2.1 dX0_taken_35 rfl (lv_at hl 2 rfl) ?_
        refine xg_X0_119_0 C hK I dX0_taken_36 ?_
        refine xg_X0_164_12 C hK I dX0_taken_39 ?_
        refine lv_aload_n C.1 C.2.1 dX0_taken_42 rfl (lv_at hl 2 rfl) ?_
        refine xg_X0_33_0 C hK I dX0_taken_43 ?_
        refine xg_X0_90_2 C hK I dX0_taken_46 ?_
        refine lv_iload C.1 C.2.1 dX0_taken_49 (lv_at hl 0 rfl) ?_
        refine xl_4 C hK I (q := b) (ix_nI (by omega)) (by omega) (x := nI (t (6 + 6 * b))) (by rw [hm 4 (by decide)]; exact hnw.2.1 b (by omega)) dX0_taken_51 ?_
        refine lv_dup2_11 C.1 C.2.1 dX0_taken_52 rfl rfl ?_
        refine xl_13 C hK I (q := t (6 + 6 * b)) (ix_nI (by have z0 := hT (6 + 6 * b); omega)) (by have := hsd b (by omega); omega) (x := nI (cS t b (dC t L (dF d)) (t (6 + 6 * b)))) (h13 _ (hsd _ (by omega))) dX0_taken_53 ?_
        refine lv_iload_n C.1 C.2.1 dX0_taken_54 rfl (lv_at hl 3 rfl) ?_
        refine lv_iload C.1 C.2.1 dX0_taken_55 (lv_at hl 0 rfl) ?_
        refine x_outI hA I (x_runS C hK hO hAo I cs_X0_157 (met_X0_has l E s0 (wX ad) (rX ad ro (some (ad 2))) v1  L b (by first | assumption | omega) (by first | assumption | omega)) (Nat.le_of_ble_eq_true rfl) rfl hl.1 rfl (Nat.le_of_ble_eq_true rfl) dX0_taken_57) (fun x_7 v9 H9 L9 hp I => ?_)
        rcases hp with ⟨hx_7, b57, hv9⟩ | ⟨hx_7, b57, hv9⟩
        · rw [hv9] at I; subst hx_7; clear hv9
          refine f_if_eq C (by decide) dX0_taken_60 (tgt := 83) (by decide) ?_
          refine lv_aload_n C.1 C.2.1 dX0_taken_63 rfl (lv_at hl 2 rfl) ?_
          refine xg_X0_33_0 C hK I dX0_taken_64 ?_
          refine lv_iload C.1 C.2.1 dX0_taken_67 (lv_at hl 0 rfl) ?_
          refine x_outI hA I (x_runV C hK hO hAo I 2 cv_X0_97 rfl (Nat.le_of_ble_eq_true rfl) rfl (met_X1_counts l E s0 (wX ad) (rX ad ro (some (ad 2))) v1 2 t b (told_2 ad ro _) (hnw.off (fun i h1 h2 => hm i (by omega))) hT (by first | assumption | omega)) (Nat.le_of_ble_eq_true rfl) rfl hl.1 rfl (Nat.le_of_ble_eq_true rfl) dX0_taken_69) (fun x_8 v9 H9 L9 hp I => ?_)
          obtain ⟨hx_8, hv9⟩ := hp
          rw [hv9] at I; subst hx_8; clear hv9
          refine lv_aload_n C.1 C.2.1 dX0_taken_72 rfl (lv_at hl 2 rfl) ?_
          refine xg_X0_141_0 C hK I (x := nI (dF d)) (by rw [hm 0 (by decide)]; exact hF) dX0_taken_73 ?_
          refine n_icmp_gt C (a := cnt t b) (b := dF d) rfl rfl (by have z0 := hT b; have z1 := cnt_le hT b; omega) (by omega) dX0_taken_76 (tgt := 83) (by decide) (fun c76 => ?_) (fun c76 => ?_)
          · have kS : (dC t L (dF d)) b = false := dC_F2 c76
            refine lv_iconst (v := 0) C.1 C.2.1 dX0_taken_83 (by decide) ?_
            refine n_add C (a := cS t b (dC t L (dF d)) (t (6 + 6 * b))) (b := 0) rfl rfl dX0_taken_84 ?_
            refine xs_13 C hK I (q := t (6 + 6 * b)) (ix_nI (by have z0 := hT (6 + 6 * b); omega)) (by have := hsd b (by omega); omega) dX0_taken_85 (fun H9 L9 I => ?_)
            refine lv_iinc (v := nI (b + 1)) (lv' := [(4, .int (nI (b + 1))), (3, .int (-4)), (0, .ref (ad 0)), (1, .int (nI L)), (2, .ref q)]) C.1 C.2.1 dX0_taken_86 hl (k := 0) rfl (nI_add _ 1) (Nat.le_of_ble_eq_true rfl) rfl (fun ls hl => ?_)
            refine lv_goto (tgt := 26) C.1 C.2.1 dX0_taken_89 (by decide) ?_
            exact ih26 (b + 1) (st2 v1 13 (t (6 + 6 * b)) (nI ((cS t b (dC t L (dF d)) (t (6 + 6 * b))) + 0))) _ _ _ (by omega) (by first | assumption | omega) (fun j hj => by funext z; rw [st2_cell _ _ _ hj, hm j hj]) (many_step (hsd _ (by omega)) h13 (by rw [kS]; rfl)) I (lv_sub hl [0, 1, 2, 3, 4] rfl)
          · have kS : (dC t L (dF d)) b = true := dC_T b57 c76
            refine lv_iconst (v := 1) C.1 C.2.1 dX0_taken_79 (by decide) ?_
            refine lv_goto (tgt := 84) C.1 C.2.1 dX0_taken_80 (by decide) ?_
            refine n_add C (a := cS t b (dC t L (dF d)) (t (6 + 6 * b))) (b := 1) rfl rfl dX0_taken_84 ?_
            refine xs_13 C hK I (q := t (6 + 6 * b)) (ix_nI (by have z0 := hT (6 + 6 * b); omega)) (by have := hsd b (by omega); omega) dX0_taken_85 (fun H9 L9 I => ?_)
            refine lv_iinc (v := nI (b + 1)) (lv' := [(4, .int (nI (b + 1))), (3, .int (-4)), (0, .ref (ad 0)), (1, .int (nI L)), (2, .ref q)]) C.1 C.2.1 dX0_taken_86 hl (k := 0) rfl (nI_add _ 1) (Nat.le_of_ble_eq_true rfl) rfl (fun ls hl => ?_)
            refine lv_goto (tgt := 26) C.1 C.2.1 dX0_taken_89 (by decide) ?_
            exact ih26 (b + 1) (st2 v1 13 (t (6 + 6 * b)) (nI ((cS t b (dC t L (dF d)) (t (6 + 6 * b))) + 1))) _ _ _ (by omega) (by first | assumption | omega) (fun j hj => by funext z; rw [st2_cell _ _ _ hj, hm j hj]) (many_step (hsd _ (by omega)) h13 (by rw [kS]; rfl)) I (lv_sub hl [0, 1, 2, 3, 4] rfl)
        · rw [hv9] at I; subst hx_7; clear hv9
          have kS : (dC t L (dF d)) b = false := dC_F1 b57
          refine t_if_eq C (by decide) dX0_taken_60 (tgt := 83) (by decide) ?_
          refine lv_iconst (v := 0) C.1 C.2.1 dX0_taken_83 (by decide) ?_
          refine n_add C (a := cS t b (dC t L (dF d)) (t (6 + 6 * b))) (b := 0) rfl rfl dX0_taken_84 ?_
          refine xs_13 C hK I (q := t (6 + 6 * b)) (ix_nI (by have z0 := hT (6 + 6 * b); omega)) (by have := hsd b (by omega); omega) dX0_taken_85 (fun H9 L9 I => ?_)
          refine lv_iinc (v := nI (b + 1)) (lv' := [(4, .int (nI (b + 1))), (3, .int (-4)), (0, .ref (ad 0)), (1, .int (nI L)), (2, .ref q)]) C.1 C.2.1 dX0_taken_86 hl (k := 0) rfl (nI_add _ 1) (Nat.le_of_ble_eq_true rfl) rfl (fun ls hl => ?_)
          refine lv_goto (tgt := 26) C.1 C.2.1 dX0_taken_89 (by decide) ?_
          exact ih26 (b + 1) (st2 v1 13 (t (6 + 6 * b)) (nI ((cS t b (dC t L (dF d)) (t (6 + 6 * b))) + 0))) _ _ _ (by omega) (by first | assumption | omega) (fun j hj => by funext z; rw [st2_cell _ _ _ hj, hm j hj]) (many_step (hsd _ (by omega)) h13 (by rw [kS]; rfl)) I (lv_sub hl [0, 1, 2, 3, 4] rfl)
  exact cut26 _ 0 (st2 (st2 v 13 0 0) 13 1 0) _ _ _ (Nat.lt_succ_self _) (by first | assumption | omega) (fun j hj => by funext z; rw [st2_cell _ _ _ hj, st2_cell _ _ _ hj]) (by intro k hk; rcases (by omega : k = 0 ∨ k = 1) with rfl | rfl <;> rfl) I (lv_sub hl [0, 1, 2, 3, 4] rfl)
