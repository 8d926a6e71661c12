/-! LockTurns: first methods -/
set_option maxRecDepth 100000
set_option maxHeartbeats 4000000 in
theorem met_X0_isIn (l : Launch) (E : GEnv) (s0 : State) (w : GW) (r : Rfm) (v : Mem)  (a : Int64) (b : Int64) (c : Int64) : MxI l yX0_isIn cX0_isIn 6 (some .boolean) 0 s0 E vwCl tlA w r r [.long a, .long b, .long c] v (fun x9 v9 => (x9 = 1 ∧ (b.toInt ≤ a.toInt ∧ a.toInt ≤ c.toInt) ∧ v9 = v) ∨ (x9 = 0 ∧ (a.toInt < b.toInt ∨ c.toInt < a.toInt) ∧ v9 = v)) := by
  refine MetX.of RX0 [(0, .long a), (2, .long b), (4, .long c)] (by decide) rfl rfl (Nat.le_of_ble_eq_true rfl) ?_
  intro P9 e9 s9 m9 a9 b9 q9 c9 A9 C hK hr9 hk9 hA hO hAo I ls hl
  refine lv_lload_n C.1 C.2.1 dX0_isIn_0 rfl (lv_at hl 0 rfl) ?_
  refine lv_lload_n C.1 C.2.1 dX0_isIn_1 rfl (lv_at hl 1 rfl) ?_
  refine W.lcmp C.1 C.2.1 dX0_isIn_2 ?_
  refine c_if_lt C dX0_isIn_3 (tgt := 17) (by decide) (fun c3 => ?_) (fun c3 => ?_)
  · refine lv_iconst (v := 0) C.1 C.2.1 dX0_isIn_17 (by decide) ?_
    exact g_zret C hr9 hk9 I dX0_isIn_18 rfl (Or.inr ⟨rfl, by omega, rfl⟩)
  · refine lv_lload_n C.1 C.2.1 dX0_isIn_6 rfl (lv_at hl 0 rfl) ?_
    refine lv_lload C.1 C.2.1 dX0_isIn_7 (lv_at hl 2 rfl) ?_
    refine W.lcmp C.1 C.2.1 dX0_isIn_9 ?_
    refine c_if_gt C dX0_isIn_10 (tgt := 17) (by decide) (fun c10 => ?_) (fun c10 => ?_)
    · refine lv_iconst (v := 0) C.1 C.2.1 dX0_isIn_17 (by decide) ?_
      exact g_zret C hr9 hk9 I dX0_isIn_18 rfl (Or.inr ⟨rfl, by omega, rfl⟩)
    · refine lv_iconst (v := 1) C.1 C.2.1 dX0_isIn_13 (by decide) ?_
      refine lv_goto (tgt := 18) C.1 C.2.1 dX0_isIn_14 (by decide) ?_
      exact g_zret C hr9 hk9 I dX0_isIn_18 rfl (Or.inl ⟨rfl, by omega, rfl⟩)
set_option maxHeartbeats 4000000 in
theorem met_X0_has (l : Launch) (E : GEnv) (s0 : State) (w : GW) (r : Rfm) (v : Mem)  (L : Nat) (b : Nat) (hL : L < 128) (hb : b < 8) : MxI l yX0_has cX0_has 2 (some .boolean) 0 s0 E vwCl tlA w r r [.int (nI L), .int (nI b)] v (fun x9 v9 => (x9 = 1 ∧ (L.testBit b = true) ∧ v9 = v) ∨ (x9 = 0 ∧ (L.testBit b = false) ∧ v9 = v)) := by
  refine MetX.of RX0 [(0, .int (nI L)), (1, .int (nI b))] (by decide) rfl rfl (Nat.le_of_ble_eq_true rfl) ?_
  intro P9 e9 s9 m9 a9 b9 q9 c9 A9 C hK hr9 hk9 hA hO hAo I ls hl
  refine lv_iload_n C.1 C.2.1 dX0_has_0 rfl (lv_at hl 0 rfl) ?_
  refine lv_iload_n C.1 C.2.1 dX0_has_1 rfl (lv_at hl 1 rfl) ?_
  refine lv_ishr C.1 C.2.1 dX0_has_2 ?_
  refine lv_iconst (v := 1) C.1 C.2.1 dX0_has_3 (by decide) ?_
  refine e_iand C (z := nI (bitN L b)) (bit_ok (by omega) (by omega)) dX0_has_4 ?_
  refine lv_iconst (v := 1) C.1 C.2.1 dX0_has_5 (by decide) ?_
  refine n_icmp_ne C (a := bitN L b) (b := 1) rfl rfl (by have z0 := bitN_le L b; omega) (by omega) dX0_has_6 (tgt := 13) (by decide) (fun c6 => ?_) (fun c6 => ?_)
  · have k6 := bitN_0 c6
    refine lv_iconst (v := 0) C.1 C.2.1 dX0_has_13 (by decide) ?_
    exact g_zret C hr9 hk9 I dX0_has_14 rfl (Or.inr ⟨rfl, by exact k6, rfl⟩)
  · have k6 := bitN_1 c6
    refine lv_iconst (v := 1) C.1 C.2.1 dX0_has_9 (by decide) ?_
    refine lv_goto (tgt := 14) C.1 C.2.1 dX0_has_10 (by decide) ?_
    exact g_zret C hr9 hk9 I dX0_has_14 rfl (Or.inl ⟨rfl, by exact k6, rfl⟩)
set_option maxHeartbeats 4000000 in
theorem met_X0_isBoat (l : Launch) (E : GEnv) (s0 : State) (ad : Nat → Nat) (ro : Nat → Option Nat) (gt : Option Nat) (v : Mem) (n : Nat) (b : Int32) (hn : v 0 4 = nI n) (hn6 : n ≤ 6) : MxI l yX0_isBoat cX0_isBoat 2 (some .boolean) 1 s0 E vwCl tlA (wX ad) (rX ad ro gt) (rX ad ro gt) [.ref (ad 0), .int b] v (fun x9 v9 => (x9 = 1 ∧ (0 ≤ b.toInt ∧ b.toInt < n) ∧ v9 = v) ∨ (x9 = 0 ∧ (b.toInt < 0 ∨ (n : Int) ≤ b.toInt) ∧ v9 = v)) := by
  refine MetX.of RX0 [(0, .ref (ad 0)), (1, .int b)] (by decide) rfl rfl (Nat.le_of_ble_eq_true rfl) ?_
  intro P9 e9 s9 m9 a9 b9 q9 c9 A9 C hK hr9 hk9 hA hO hAo I ls hl
  refine lv_iload_n C.1 C.2.1 dX0_isBoat_0 rfl (lv_at hl 1 rfl) ?_
  refine lv_i2l (v := b.toInt64) C.1 C.2.1 dX0_isBoat_1 rfl ?_
  refine lv_lconst (v := 0) C.1 C.2.1 dX0_isBoat_2 (by decide) ?_
  refine lv_aload_n C.1 C.2.1 dX0_isBoat_3 rfl (lv_at hl 0 rfl) ?_
  refine xg_X0_49_0 C hK I (x := nI n) hn dX0_isBoat_4 ?_
  refine lv_iconst (v := 1) C.1 C.2.1 dX0_isBoat_7 (by decide) ?_
  refine lv_isub C.1 C.2.1 dX0_isBoat_8 ?_
  refine lv_i2l (v := ((nI n) - 1).toInt64) C.1 C.2.1 dX0_isBoat_9 rfl ?_
  refine x_outI hA I (x_runS C hK hO hAo I cs_X0_3 (met_X0_isIn l E s0 (wX ad) (rX ad ro gt) v  b.toInt64 (0 : Int64) (((nI n) - 1).toInt64) ) (Nat.le_of_ble_eq_true rfl) rfl hl.1 rfl (Nat.le_of_ble_eq_true rfl) dX0_isBoat_10) (fun x_1 v9 H9 L9 hp I => ?_)
  rcases hp with ⟨hx_1, b10, hv9⟩ | ⟨hx_1, b10, hv9⟩
  · rw [hv9] at I; subst hx_1; clear hv9
    rw [l_int, nI_m1 hn6] at b10
    exact g_zret C hr9 hk9 I dX0_isBoat_13 rfl (Or.inl ⟨rfl, by have e0 : (0 : Int64).toInt = 0 := (by decide); omega, rfl⟩)
  · rw [hv9] at I; subst hx_1; clear hv9
    rw [l_int, nI_m1 hn6] at b10
    exact g_zret C hr9 hk9 I dX0_isBoat_13 rfl (Or.inr ⟨rfl, by have e0 : (0 : Int64).toInt = 0 := (by decide); omega, rfl⟩)
set_option maxHeartbeats 4000000 in
theorem met_X1_counts (l : Launch) (E : GEnv) (s0 : State) (w : GW) (r : Rfm) (v : Mem) (j : Nat) (t : Nat → Nat) (b : Nat) (hTd : isTold w r j) (hv : TdV v j t) (hT : TB t) (hb : b < 6) : MxI l yX1_counts cX1_counts 3 (some .int) 1 s0 E vwCl tlA w r r [.ref (w.2.2 j), .int (nI b)] v (fun x9 v9 => x9 = nI (cnt t b) ∧ v9 = v) := by
  refine MetX.of RX1 [(0, .ref (w.2.2 j)), (1, .int (nI b))] (by decide) rfl rfl (Nat.le_of_ble_eq_true rfl) ?_
  intro P9 e9 s9 m9 a9 b9 q9 c9 A9 C hK hr9 hk9 hA hO hAo I ls hl
  refine lv_aload_n C.1 C.2.1 dX1_counts_0 rfl (lv_at hl 0 rfl) ?_
  refine g_get C hK I j 0 hTd.1 (by have := hTd.2.2.2.2.2.1; omega) fl_X1_9 (Nat.le_of_ble_eq_true rfl) rfl (congrArg va_rf hTd.2.2.2.2.2.2.1) dX1_counts_1 ?_
  refine lv_iconst (v := 5) C.1 C.2.1 dX1_counts_4 (by decide) ?_
  refine g_iald C hK I (j + 1) hTd.2.1 (by have := hTd.2.2.2.2.2.1; omega) rfl rfl (q := 5) ⟨by decide, rfl⟩ (by decide) (x := nI (t 5)) (hv.1 5 (by omega)) dX1_counts_5 ?_
  refine lv_iconst (v := 1) C.1 C.2.1 dX1_counts_6 (by decide) ?_
  refine n_icmp_ne C (a := t 5) (b := 1) rfl rfl (by have z0 := hT 5; omega) (by omega) dX1_counts_7 (tgt := 30) (by decide) (fun c7 => ?_) (fun c7 => ?_)
  · refine lv_aload_n C.1 C.2.1 dX1_counts_30 rfl (lv_at hl 0 rfl) ?_
    refine g_get C hK I j 0 hTd.1 (by have := hTd.2.2.2.2.2.1; omega) fl_X1_9 (Nat.le_of_ble_eq_true rfl) rfl (congrArg va_rf hTd.2.2.2.2.2.2.1) dX1_counts_31 ?_
    refine lv_iconst (v := 4) C.1 C.2.1 dX1_counts_34 (by decide) ?_
    refine g_iald C hK I (j + 1) hTd.2.1 (by have := hTd.2.2.2.2.2.1; omega) rfl rfl (q := 4) ⟨by decide, rfl⟩ (by decide) (x := nI (t 4)) (hv.1 4 (by omega)) dX1_counts_35 ?_
    refine lv_istore_n (lv' := [(2, .int (nI (t 4))), (0, .ref (w.2.2 j)), (1, .int (nI b))]) C.1 C.2.1 dX1_counts_36 rfl hl (Nat.le_of_ble_eq_true rfl) rfl (fun ls hl => ?_)
    refine lv_iconst (v := 0) C.1 C.2.1 dX1_counts_37 (by decide) ?_
    refine lv_aload_n C.1 C.2.1 dX1_counts_38 rfl (lv_at hl 1 rfl) ?_
    refine g_get C hK I j 2 hTd.1 (by have := hTd.2.2.2.2.2.1; omega) fl_X1_20 (Nat.le_of_ble_eq_true rfl) rfl (congrArg va_rf hTd.2.2.2.2.2.2.2.2.1) dX1_counts_39 ?_
    refine lv_iload_n C.1 C.2.1 dX1_counts_42 rfl (lv_at hl 2 rfl) ?_
    refine g_aald C hK I (j + 3) hTd.2.2.2.1 (by have := hTd.2.2.2.2.2.1; omega) (ty := .array .int) rfl rfl rfl (q := b) (ix_nI (by omega)) (by omega) (hTd.2.2.2.2.2.2.2.2.2 b (by omega)) dX1_counts_43 ?_
    refine lv_iconst (v := 1) C.1 C.2.1 dX1_counts_44 (by decide) ?_
    refine g_iald C hK I (j + 4 + b) (hTd.2.2.2.2.1 _ (by omega)) (by have := hTd.2.2.2.2.2.1; omega) rfl rfl (q := 1) ⟨by decide, rfl⟩ (by decide) (x := nI (t (6 + 6 * b + 2))) (hv.2.2.1 b hb 1 (by decide)) dX1_counts_45 ?_
    refine lv_iload_n C.1 C.2.1 dX1_counts_46 rfl (lv_at hl 0 rfl) ?_
    refine lv_isub C.1 C.2.1 dX1_counts_47 ?_
    refine x_maxI C hl.1 (Nat.le_of_ble_eq_true rfl) (Nat.le_of_ble_eq_true rfl) mxL_X1 (z := nI (cnt t b)) (cnt_max hT (ah := t 4) (by unfold ahd; (repeat' split) <;> omega)) dX1_counts_48 ?_
    exact g_iret C hr9 hk9 I dX1_counts_51 (⟨by rfl, rfl⟩)
  · refine lv_aload_n C.1 C.2.1 dX1_counts_10 rfl (lv_at hl 0 rfl) ?_
    refine g_get C hK I j 0 hTd.1 (by have := hTd.2.2.2.2.2.1; omega) fl_X1_9 (Nat.le_of_ble_eq_true rfl) rfl (congrArg va_rf hTd.2.2.2.2.2.2.1) dX1_counts_11 ?_
    refine lv_iconst (v := 4) C.1 C.2.1 dX1_counts_14 (by decide) ?_
    refine g_iald C hK I (j + 1) hTd.2.1 (by have := hTd.2.2.2.2.2.1; omega) rfl rfl (q := 4) ⟨by decide, rfl⟩ (by decide) (x := nI (t 4)) (hv.1 4 (by omega)) dX1_counts_15 ?_
    refine lv_aload_n C.1 C.2.1 dX1_counts_16 rfl (lv_at hl 0 rfl) ?_
    refine g_get C hK I j 2 hTd.1 (by have := hTd.2.2.2.2.2.1; omega) fl_X1_20 (Nat.le_of_ble_eq_true rfl) rfl (congrArg va_rf hTd.2.2.2.2.2.2.2.2.1) dX1_counts_17 ?_
    refine lv_iload_n C.1 C.2.1 dX1_counts_20 rfl (lv_at hl 1 rfl) ?_
    refine g_aald C hK I (j + 3) hTd.2.2.2.1 (by have := hTd.2.2.2.2.2.1; omega) (ty := .array .int) rfl rfl rfl (q := b) (ix_nI (by omega)) (by omega) (hTd.2.2.2.2.2.2.2.2.2 b (by omega)) dX1_counts_21 ?_
    refine lv_iconst (v := 3) C.1 C.2.1 dX1_counts_22 (by decide) ?_
    refine g_iald C hK I (j + 4 + b) (hTd.2.2.2.2.1 _ (by omega)) (by have := hTd.2.2.2.2.2.1; omega) rfl rfl (q := 3) ⟨by decide, rfl⟩ (by decide) (x := nI (t (6 + 6 * b + 4))) (hv.2.2.1 b hb 3 (by decide)) dX1_counts_23 ?_
    refine x_maxN C (a := t 4) (b := t (6 + 6 * b + 4)) rfl rfl (by have z0 := hT 4; omega) (by have z0 := hT (6 + 6 * b + 4); omega) hl.1 (Nat.le_of_ble_eq_true rfl) (Nat.le_of_ble_eq_true rfl) mxL_X1 dX1_counts_24 ?_
    refine lv_goto (tgt := 36) C.1 C.2.1 dX1_counts_27 (by decide) ?_
    refine lv_istore_n (lv' := [(2, .int (nI (if t 4 < t (6 + 6 * b + 4) then t (6 + 6 * b + 4) else t 4))), (0, .ref (w.2.2 j)), (1, .int (nI b))]) C.1 C.2.1 dX1_counts_36 rfl hl (Nat.le_of_ble_eq_true rfl) rfl (fun ls hl => ?_)
    refine lv_iconst (v := 0) C.1 C.2.1 dX1_counts_37 (by decide) ?_
    refine lv_aload_n C.1 C.2.1 dX1_counts_38 rfl (lv_at hl 1 rfl) ?_
    refine g_get C hK I j 2 hTd.1 (by have := hTd.2.2.2.2.2.1; omega) fl_X1_20 (Nat.le_of_ble_eq_true rfl) rfl (congrArg va_rf hTd.2.2.2.2.2.2.2.2.1) dX1_counts_39 ?_
    refine lv_iload_n C.1 C.2.1 dX1_counts_42 rfl (lv_at hl 2 rfl) ?_
    refine g_aald C hK I (j + 3) hTd.2.2.2.1 (by have := hTd.2.2.2.2.2.1; omega) (ty := .array .int) rfl rfl rfl (q := b) (ix_nI (by omega)) (by omega) (hTd.2.2.2.2.2.2.2.2.2 b (by omega)) dX1_counts_43 ?_
    refine lv_iconst (v := 1) C.1 C.2.1 dX1_counts_44 (by decide) ?_
    refine g_iald C hK I (j + 4 + b) (hTd.2.2.2.2.1 _ (by omega)) (by have := hTd.2.2.2.2.2.1; omega) rfl rfl (q := 1) ⟨by decide, rfl⟩ (by decide) (x := nI (t (6 + 6 * b + 2))) (hv.2.2.1 b hb 1 (by decide)) dX1_counts_45 ?_
    refine lv_iload_n C.1 C.2.1 dX1_counts_46 rfl (lv_at hl 0 rfl) ?_
    refine lv_isub C.1 C.2.1 dX1_counts_47 ?_
    refine x_maxI C hl.1 (Nat.le_of_ble_eq_true rfl) (Nat.le_of_ble_eq_true rfl) mxL_X1 (z := nI (cnt t b)) (cnt_max hT (ah := (if t 4 < t (6 + 6 * b + 4) then t (6 + 6 * b + 4) else t 4)) (by unfold ahd; (repeat' split) <;> omega)) dX1_counts_48 ?_
    exact g_iret C hr9 hk9 I dX1_counts_51 (⟨by rfl, rfl⟩)
