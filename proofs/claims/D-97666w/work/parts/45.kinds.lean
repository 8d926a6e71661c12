/-! the kinds of law -/
set_option maxRecDepth 100000
def cS (t : Nat → Nat) (n : Nat) (S : Nat → Bool) (k : Nat) : Nat := cn (fun b => S b && decide (t (6 + 6 * b) = k)) n
theorem cS_le (t : Nat → Nat) (n : Nat) (S : Nat → Bool) (k : Nat) : cS t n S k ≤ n := cn_le _ _
/-- the gate as a day d stands, S: who counts now -/
def GV (v : Mem) (t : Nat → Nat) (n cg : Nat) (S : Nat → Bool) (d : Day) : Prop := v 12 1 = nI (dR d) ∧ v 12 2 = enL (dLa d) ∧ v 12 3 = nI (dRo d) ∧ v 12 4 = nI cg ∧ v 13 0 = nI (cS t n S 0) ∧ v 13 1 = nI (cS t n S 1) ∧ dR d ≤ 1 ∧ dLa d ≤ 2 ∧ dRo d ≤ 1000 ∧ cg < 64
theorem dWant_le {v : Mem} {t : Nat → Nat} {n cg : Nat} {S : Nat → Bool} {d : Day} (h : GV v t n cg S d) (law : Nat) : dWant t n law S d ≤ 1 := by
  have h1 := h.2.2.2.2.2.2.1
  have h2 := h.2.2.2.2.2.2.2.1
  unfold dWant
  (repeat' split) <;> omega
theorem co_rank_0 : CO RX0 167 RX10 yX10_rank yX10_rank cX10_rank 3 (some .int) 2 := ⟨q488, q491, q489, ⟨_, _, _, q520⟩, q490, q489, q520, by decide +kernel, by decide⟩
theorem co_rank_1 : CO RX0 167 RX8 yX10_rank yX8_rank cX8_rank 3 (some .int) 2 := ⟨q488, q491, q489, ⟨_, _, _, q520⟩, q518, q499, q500, by decide +kernel, by decide⟩
theorem co_rank_2 : CO RX0 167 RX12 yX10_rank yX8_rank cX8_rank 3 (some .int) 2 := ⟨q488, q491, q489, ⟨_, _, _, q520⟩, q519, q499, q500, by decide +kernel, by decide⟩
theorem co_rank_3 : CO RX0 167 RX9 yX10_rank yX9_rank cX9_rank 3 (some .int) 2 := ⟨q488, q491, q489, ⟨_, _, _, q520⟩, q492, q493, q494, by decide +kernel, by decide⟩
theorem co_rank_4 : CO RX0 167 RX11 yX10_rank yX8_rank cX8_rank 3 (some .int) 2 := ⟨q488, q491, q489, ⟨_, _, _, q520⟩, q498, q499, q500, by decide +kernel, by decide⟩
theorem co_want_1 : CO RX8 27 RX8 yX8_wanted yX8_wanted cX8_wanted 2 (some .int) 1 := ⟨q503, q506, q504, ⟨_, _, _, q517⟩, q505, q504, q517, by decide +kernel, by decide⟩
theorem co_want_2 : CO RX8 27 RX12 yX8_wanted yX12_wanted cX12_wanted 2 (some .int) 1 := ⟨q503, q506, q504, ⟨_, _, _, q517⟩, q512, q513, q514, by decide +kernel, by decide⟩
theorem co_want_4 : CO RX8 27 RX11 yX8_wanted yX11_wanted cX11_wanted 2 (some .int) 1 := ⟨q503, q506, q504, ⟨_, _, _, q517⟩, q507, q508, q509, by decide +kernel, by decide⟩
theorem cu_X9_9 : CU RX9 9 yX10_rank cX10_rank 3 (some .int) 2 := ⟨q495, q491, q496, q489, q520, by decide, by decide +kernel, by decide⟩
theorem cu_X8_13 : CU RX8 13 yX10_rank cX10_rank 3 (some .int) 2 := ⟨q501, q491, q502, q489, q520, by decide, by decide +kernel, by decide⟩
theorem cu_X11_13 : CU RX11 13 yX8_wanted cX8_wanted 2 (some .int) 1 := ⟨q510, q506, q511, q504, q517, by decide, by decide +kernel, by decide⟩
theorem cu_X12_15 : CU RX12 15 yX8_wanted cX8_wanted 2 (some .int) 1 := ⟨q515, q506, q516, q504, q517, by decide, by decide +kernel, by decide⟩
theorem cn_X9_19 : CN RX9 19 yX0_has cX0_has 2 (some .boolean) 2 := ⟨_, List.mem_filter.mpr ⟨q497, rfl⟩, q389, q83, q390, by decide +kernel, by decide⟩
set_option maxHeartbeats 4000000 in
theorem met_X10_rank (l : Launch) (E : GEnv) (s0 : State) (ad : Nat → Nat) (ro : Nat → Option Nat) (v : Mem) (t : Nat → Nat) (n cg : Nat) (S : Nat → Bool) (d : Day) (q : Nat) (b : Nat) : MyI l yX10_rank cX10_rank 3 (some .int) 0 s0 E vwCl tlA (wX ad) (rX ad ro (some (ad 2))) (rX ad ro (some (ad 2))) [.ref q, .ref (ad 12), .int (nI b)] v (fun x9 v9 => x9 = 0 ∧ v9 = v) := by
  refine MetXB.of RX10 [(0, .ref q), (1, .ref (ad 12)), (2, .int (nI b))] (by decide) rfl rfl (Nat.le_of_ble_eq_true rfl) ?_
  intro P9 e9 s9 m9 a9 b9 q9 c9 A9 C hK hr9 hk9 hA hO hAo I ls hl
  refine lv_iconst (v := 0) C.1 C.2.1 dX10_rank_0 (by decide) ?_
  exact g_iret C hr9 hk9 I dX10_rank_1 (⟨by rfl, rfl⟩)
set_option maxHeartbeats 4000000 in
theorem met_X8_wanted (l : Launch) (E : GEnv) (s0 : State) (ad : Nat → Nat) (ro : Nat → Option Nat) (v : Mem) (t : Nat → Nat) (n cg : Nat) (S : Nat → Bool) (d : Day) (q : Nat) (hgv : GV v t n cg S d) : MyI l yX8_wanted cX8_wanted 2 (some .int) 0 s0 E vwCl tlA (wX ad) (rX ad ro (some (ad 2))) (rX ad ro (some (ad 2))) [.ref q, .ref (ad 12)] v (fun x9 v9 => x9 = nI (dR d) ∧ v9 = v) := by
  refine MetXB.of RX8 [(0, .ref q), (1, .ref (ad 12))] (by decide) rfl rfl (Nat.le_of_ble_eq_true rfl) ?_
  intro P9 e9 s9 m9 a9 b9 q9 c9 A9 C hK hr9 hk9 hA hO hAo I ls hl
  refine lv_aload_n C.1 C.2.1 dX8_wanted_0 rfl (lv_at hl 1 rfl) ?_
  refine xg_X8_7_12 C hK I (x := nI (dR d)) hgv.1 dX8_wanted_1 ?_
  exact g_iret C hr9 hk9 I dX8_wanted_4 (⟨by rfl, rfl⟩)
set_option maxHeartbeats 4000000 in
theorem met_X12_wanted (l : Launch) (E : GEnv) (s0 : State) (ad : Nat → Nat) (ro : Nat → Option Nat) (v : Mem) (t : Nat → Nat) (n cg : Nat) (S : Nat → Bool) (d : Day) (q : Nat) (hgv : GV v t n cg S d) (hq : OldO s0 RX12 q) : MyI l yX12_wanted cX12_wanted 2 (some .int) 1 s0 E vwCl tlA (wX ad) (rX ad ro (some (ad 2))) (rX ad ro (some (ad 2))) [.ref q, .ref (ad 12)] v (fun x9 v9 => x9 = nI (dWant t n 2 S d) ∧ v9 = v) := by
  refine MetXB.of RX12 [(0, .ref q), (1, .ref (ad 12))] (by decide) rfl rfl (Nat.le_of_ble_eq_true rfl) ?_
  intro P9 e9 s9 m9 a9 b9 q9 c9 A9 C hK hr9 hk9 hA hO hAo I ls hl
  refine lv_aload_n C.1 C.2.1 dX12_wanted_0 rfl (lv_at hl 1 rfl) ?_
  refine xg_X12_9_12 C hK I (x := enL (dLa d)) hgv.2.1 dX12_wanted_1 ?_
  refine lv_bipush (v := (-4)) C.1 C.2.1 dX12_wanted_4 (by decide) ?_
  refine z_icmp_ne C dX12_wanted_6 (tgt := 17) (by decide) (fun c6 => ?_) (fun c6 => ?_)
  · have la2 : dLa d ≠ 2 := fun h => c6 (by rw [h]; rfl)
    have hla := hgv.2.1.trans (enL_nI la2)
    refine lv_aload_n C.1 C.2.1 dX12_wanted_17 rfl (lv_at hl 1 rfl) ?_
    refine xg_X12_19_12 C hK I (x := nI (dRo d)) hgv.2.2.1 dX12_wanted_18 ?_
    refine lv_iconst (v := 2) C.1 C.2.1 dX12_wanted_21 (by decide) ?_
    refine n_icmp_lt C (a := dRo d) (b := 2) rfl rfl (by have z0 := hgv.2.2.2.2.2.2.2.2.1; omega) (by omega) dX12_wanted_22 (tgt := 34) (by decide) (fun c22 => ?_) (fun c22 => ?_)
    · refine lv_aload_n C.1 C.2.1 dX12_wanted_34 rfl (lv_at hl 1 rfl) ?_
      refine xg_X12_9_12 C hK I (x := nI (dLa d)) hla dX12_wanted_35 ?_
      exact g_iret C hr9 hk9 I dX12_wanted_38 (⟨by unfold dWant; rw [if_pos rfl]; first | rw [if_pos la2] | (rw [if_neg la2, if_pos (by omega)]) | (rw [if_neg la2, if_neg (by omega)]), rfl⟩)
    · refine lv_iconst (v := 1) C.1 C.2.1 dX12_wanted_25 (by decide) ?_
      refine lv_aload_n C.1 C.2.1 dX12_wanted_26 rfl (lv_at hl 1 rfl) ?_
      refine xg_X12_9_12 C hK I (x := nI (dLa d)) hla dX12_wanted_27 ?_
      refine n_sub C (a := 1) (b := dLa d) rfl rfl (by have z0 := hgv.2.2.2.2.2.2.2.1; omega) dX12_wanted_30 ?_
      refine lv_goto (tgt := 38) C.1 C.2.1 dX12_wanted_31 (by decide) ?_
      exact g_iret C hr9 hk9 I dX12_wanted_38 (⟨by unfold dWant; rw [if_pos rfl]; first | rw [if_pos la2] | (rw [if_neg la2, if_pos (by omega)]) | (rw [if_neg la2, if_neg (by omega)]), rfl⟩)
  · have la2 := (enL_m4 hgv.2.2.2.2.2.2.2.1).mp c6
    refine lv_aload_n C.1 C.2.1 dX12_wanted_9 rfl (lv_at hl 0 rfl) ?_
    refine lv_aload_n C.1 C.2.1 dX12_wanted_10 rfl (lv_at hl 1 rfl) ?_
    refine x_outI hA I (b_runU C hK hO hAo I q cu_X12_15 hq (met_X8_wanted l E s0 ad ro v t n cg S d q  (by first | assumption | omega)) (Nat.le_of_ble_eq_true rfl) rfl hl.1 rfl (Nat.le_of_ble_eq_true rfl) dX12_wanted_11) (fun x_1 v9 H9 L9 hp I => ?_)
    obtain ⟨hx_1, hv9⟩ := hp
    rw [hv9] at I; subst hx_1; clear hv9
    refine lv_goto (tgt := 38) C.1 C.2.1 dX12_wanted_14 (by decide) ?_
    exact g_iret C hr9 hk9 I dX12_wanted_38 (⟨by unfold dWant; rw [if_pos rfl]; first | rw [if_pos la2] | (rw [if_neg la2, if_pos (by omega)]) | (rw [if_neg la2, if_neg (by omega)]), rfl⟩)
set_option maxHeartbeats 4000000 in
theorem met_X11_wanted (l : Launch) (E : GEnv) (s0 : State) (ad : Nat → Nat) (ro : Nat → Option Nat) (v : Mem) (t : Nat → Nat) (n cg : Nat) (S : Nat → Bool) (d : Day) (q : Nat) (hgv : GV v t n cg S d) (hq : OldO s0 RX11 q) (hn6 : n ≤ 6) : MyI l yX11_wanted cX11_wanted 2 (some .int) 1 s0 E vwCl tlA (wX ad) (rX ad ro (some (ad 2))) (rX ad ro (some (ad 2))) [.ref q, .ref (ad 12)] v (fun x9 v9 => x9 = nI (dWant t n 4 S d) ∧ v9 = v) := by
  refine MetXB.of RX11 [(0, .ref q), (1, .ref (ad 12))] (by decide) rfl rfl (Nat.le_of_ble_eq_true rfl) ?_
  intro P9 e9 s9 m9 a9 b9 q9 c9 A9 C hK hr9 hk9 hA hO hAo I ls hl
  refine lv_aload_n C.1 C.2.1 dX11_wanted_0 rfl (lv_at hl 1 rfl) ?_
  refine xg_X11_7_12 C hK I dX11_wanted_1 ?_
  refine lv_iconst (v := 0) C.1 C.2.1 dX11_wanted_4 (by decide) ?_
  refine xl_13 C hK I (q := 0) ⟨by decide, rfl⟩ (by decide) (x := nI (cS t n S 0)) hgv.2.2.2.2.1 dX11_wanted_5 ?_
  refine lv_aload_n C.1 C.2.1 dX11_wanted_6 rfl (lv_at hl 1 rfl) ?_
  refine xg_X11_7_12 C hK I dX11_wanted_7 ?_
  refine lv_iconst (v := 1) C.1 C.2.1 dX11_wanted_10 (by decide) ?_
  refine xl_13 C hK I (q := 1) ⟨by decide, rfl⟩ (by decide) (x := nI (cS t n S 1)) hgv.2.2.2.2.2.1 dX11_wanted_11 ?_
  refine n_icmp_ne C (a := cS t n S 0) (b := cS t n S 1) rfl rfl (by have z0 := cS_le t n S 0; omega) (by have z0 := cS_le t n S 1; omega) dX11_wanted_12 (tgt := 23) (by decide) (fun c12 => ?_) (fun c12 => ?_)
  · refine lv_aload_n C.1 C.2.1 dX11_wanted_23 rfl (lv_at hl 1 rfl) ?_
    refine xg_X11_7_12 C hK I dX11_wanted_24 ?_
    refine lv_iconst (v := 0) C.1 C.2.1 dX11_wanted_27 (by decide) ?_
    refine xl_13 C hK I (q := 0) ⟨by decide, rfl⟩ (by decide) (x := nI (cS t n S 0)) hgv.2.2.2.2.1 dX11_wanted_28 ?_
    refine lv_aload_n C.1 C.2.1 dX11_wanted_29 rfl (lv_at hl 1 rfl) ?_
    refine xg_X11_7_12 C hK I dX11_wanted_30 ?_
    refine lv_iconst (v := 1) C.1 C.2.1 dX11_wanted_33 (by decide) ?_
    refine xl_13 C hK I (q := 1) ⟨by decide, rfl⟩ (by decide) (x := nI (cS t n S 1)) hgv.2.2.2.2.2.1 dX11_wanted_34 ?_
    refine n_icmp_le C (a := cS t n S 0) (b := cS t n S 1) rfl rfl (by have z0 := cS_le t n S 0; omega) (by have z0 := cS_le t n S 1; omega) dX11_wanted_35 (tgt := 42) (by decide) (fun c35 => ?_) (fun c35 => ?_)
    · refine lv_iconst (v := 1) C.1 C.2.1 dX11_wanted_42 (by decide) ?_
      exact g_iret C hr9 hk9 I dX11_wanted_43 (⟨by unfold dWant; rw [if_neg (by decide), if_pos rfl]; unfold cS at *; first | rw [if_pos (by assumption)] | (rw [if_neg (by omega), if_pos (by omega)]; rfl) | (rw [if_neg (by omega), if_neg (by omega)]; rfl), rfl⟩)
    · refine lv_iconst (v := 0) C.1 C.2.1 dX11_wanted_38 (by decide) ?_
      refine lv_goto (tgt := 43) C.1 C.2.1 dX11_wanted_39 (by decide) ?_
      exact g_iret C hr9 hk9 I dX11_wanted_43 (⟨by unfold dWant; rw [if_neg (by decide), if_pos rfl]; unfold cS at *; first | rw [if_pos (by assumption)] | (rw [if_neg (by omega), if_pos (by omega)]; rfl) | (rw [if_neg (by omega), if_neg (by omega)]; rfl), rfl⟩)
  · refine lv_aload_n C.1 C.2.1 dX11_wanted_15 rfl (lv_at hl 0 rfl) ?_
    refine lv_aload_n C.1 C.2.1 dX11_wanted_16 rfl (lv_at hl 1 rfl) ?_
    refine x_outI hA I (b_runU C hK hO hAo I q cu_X11_13 hq (met_X8_wanted l E s0 ad ro v t n cg S d q  (by first | assumption | omega)) (Nat.le_of_ble_eq_true rfl) rfl hl.1 rfl (Nat.le_of_ble_eq_true rfl) dX11_wanted_17) (fun x_1 v9 H9 L9 hp I => ?_)
    obtain ⟨hx_1, hv9⟩ := hp
    rw [hv9] at I; subst hx_1; clear hv9
    refine lv_goto (tgt := 43) C.1 C.2.1 dX11_wanted_20 (by decide) ?_
    exact g_iret C hr9 hk9 I dX11_wanted_43 (⟨by unfold dWant; rw [if_neg (by decide), if_pos rfl]; unfold cS at *; first | rw [if_pos (by assumption)] | (rw [if_neg (by omega), if_pos (by omega)]; rfl) | (rw [if_neg (by omega), if_neg (by omega)]; rfl), rfl⟩)
set_option maxHeartbeats 4000000 in
theorem met_rank_1 (l : Launch) (E : GEnv) (s0 : State) (ad : Nat → Nat) (ro : Nat → Option Nat) (v : Mem) (t : Nat → Nat) (n cg : Nat) (S : Nat → Bool) (d : Day) (q : Nat) (b : Nat) (hgv : GV v t n cg S d) (hnw : NwV v t) (hT : TB t) (hb : b < 6) (hs1 : t (6 + 6 * b) ≤ 1) (hq : OldO s0 RX8 q) (hn6 : n ≤ 6) : MyI l yX8_rank cX8_rank 3 (some .int) 2 s0 E vwCl tlA (wX ad) (rX ad ro (some (ad 2))) (rX ad ro (some (ad 2))) [.ref q, .ref (ad 12), .int (nI b)] v (fun x9 v9 => x9 = nI (dRank t n 1 cg S d b) ∧ v9 = v) := by
  refine MetXB.of RX8 [(0, .ref q), (1, .ref (ad 12)), (2, .int (nI b))] (by decide) rfl rfl (Nat.le_of_ble_eq_true rfl) ?_
  intro P9 e9 s9 m9 a9 b9 q9 c9 A9 C hK hr9 hk9 hA hO hAo I ls hl
  refine lv_aload_n C.1 C.2.1 dX8_rank_0 rfl (lv_at hl 0 rfl) ?_
  refine lv_aload_n C.1 C.2.1 dX8_rank_1 rfl (lv_at hl 1 rfl) ?_
  refine lv_iload_n C.1 C.2.1 dX8_rank_2 rfl (lv_at hl 2 rfl) ?_
  refine x_outI hA I (b_runU C hK hO hAo I q cu_X8_13 hq (met_X10_rank l E s0 ad ro v t n cg S d q b ) (Nat.le_of_ble_eq_true rfl) rfl hl.1 rfl (Nat.le_of_ble_eq_true rfl) dX8_rank_3) (fun x_1 v9 H9 L9 hp I => ?_)
  obtain ⟨hx_1, hv9⟩ := hp
  rw [hv9] at I; subst hx_1; clear hv9
  refine lv_aload_n C.1 C.2.1 dX8_rank_6 rfl (lv_at hl 1 rfl) ?_
  refine xg_X8_17_12 C hK I dX8_rank_7 ?_
  refine xg_X8_21_2 C hK I dX8_rank_10 ?_
  refine lv_iload_n C.1 C.2.1 dX8_rank_13 rfl (lv_at hl 2 rfl) ?_
  refine xl_4 C hK I (q := b) (ix_nI (by omega)) (by omega) (x := nI (t (6 + 6 * b))) (hnw.2.1 b (by omega)) dX8_rank_14 ?_
  refine lv_aload_n C.1 C.2.1 dX8_rank_15 rfl (lv_at hl 0 rfl) ?_
  refine lv_aload_n C.1 C.2.1 dX8_rank_16 rfl (lv_at hl 1 rfl) ?_
  refine x_outI hA I (b_runV C hK hO hAo I q co_want_1 hq (met_X8_wanted l E s0 ad ro v t n cg S d q  (by first | assumption | omega)) (Nat.le_of_ble_eq_true rfl) rfl hl.1 rfl (Nat.le_of_ble_eq_true rfl) dX8_rank_17) (fun x_2 v9 H9 L9 hp I => ?_)
  obtain ⟨hx_2, hv9⟩ := hp
  rw [hv9] at I; subst hx_2; clear hv9
  refine n_icmp_ne C (a := t (6 + 6 * b)) (b := dR d) rfl rfl (by have z0 := hT (6 + 6 * b); omega) (by have z0 := hgv.2.2.2.2.2.2.1; omega) dX8_rank_20 (tgt := 27) (by decide) (fun c20 => ?_) (fun c20 => ?_)
  · refine lv_iconst (v := 1) C.1 C.2.1 dX8_rank_27 (by decide) ?_
    refine e_iadd C (z := 1) (by decide) dX8_rank_28 ?_
    exact g_iret C hr9 hk9 I dX8_rank_29 (⟨by unfold dRank; rw [if_neg (by decide), if_neg (by decide)]; first | (rw [if_pos (by first | assumption | exact c20)]; rfl) | (rw [if_neg (by first | assumption | exact c20)]; rfl) | (have z : dWant t n 1 S d = dR d := rfl; rw [z]; first | (rw [if_pos c20]; rfl) | (rw [if_neg c20]; rfl)), rfl⟩)
  · refine lv_iconst (v := 0) C.1 C.2.1 dX8_rank_23 (by decide) ?_
    refine lv_goto (tgt := 28) C.1 C.2.1 dX8_rank_24 (by decide) ?_
    refine e_iadd C (z := 0) (by decide) dX8_rank_28 ?_
    exact g_iret C hr9 hk9 I dX8_rank_29 (⟨by unfold dRank; rw [if_neg (by decide), if_neg (by decide)]; first | (rw [if_pos (by first | assumption | exact c20)]; rfl) | (rw [if_neg (by first | assumption | exact c20)]; rfl) | (have z : dWant t n 1 S d = dR d := rfl; rw [z]; first | (rw [if_pos c20]; rfl) | (rw [if_neg c20]; rfl)), rfl⟩)
set_option maxHeartbeats 4000000 in
theorem met_rank_2 (l : Launch) (E : GEnv) (s0 : State) (ad : Nat → Nat) (ro : Nat → Option Nat) (v : Mem) (t : Nat → Nat) (n cg : Nat) (S : Nat → Bool) (d : Day) (q : Nat) (b : Nat) (hgv : GV v t n cg S d) (hnw : NwV v t) (hT : TB t) (hb : b < 6) (hs1 : t (6 + 6 * b) ≤ 1) (hq : OldO s0 RX12 q) (hn6 : n ≤ 6) : MyI l yX8_rank cX8_rank 3 (some .int) 2 s0 E vwCl tlA (wX ad) (rX ad ro (some (ad 2))) (rX ad ro (some (ad 2))) [.ref q, .ref (ad 12), .int (nI b)] v (fun x9 v9 => x9 = nI (dRank t n 2 cg S d b) ∧ v9 = v) := by
  refine MetXB.of RX8 [(0, .ref q), (1, .ref (ad 12)), (2, .int (nI b))] (by decide) rfl rfl (Nat.le_of_ble_eq_true rfl) ?_
  intro P9 e9 s9 m9 a9 b9 q9 c9 A9 C hK hr9 hk9 hA hO hAo I ls hl
  refine lv_aload_n C.1 C.2.1 dX8_rank_0 rfl (lv_at hl 0 rfl) ?_
  refine lv_aload_n C.1 C.2.1 dX8_rank_1 rfl (lv_at hl 1 rfl) ?_
  refine lv_iload_n C.1 C.2.1 dX8_rank_2 rfl (lv_at hl 2 rfl) ?_
  refine x_outI hA I (b_runU C hK hO hAo I q cu_X8_13 hq (met_X10_rank l E s0 ad ro v t n cg S d q b ) (Nat.le_of_ble_eq_true rfl) rfl hl.1 rfl (Nat.le_of_ble_eq_true rfl) dX8_rank_3) (fun x_1 v9 H9 L9 hp I => ?_)
  obtain ⟨hx_1, hv9⟩ := hp
  rw [hv9] at I; subst hx_1; clear hv9
  refine lv_aload_n C.1 C.2.1 dX8_rank_6 rfl (lv_at hl 1 rfl) ?_
  refine xg_X8_17_12 C hK I dX8_rank_7 ?_
  refine xg_X8_21_2 C hK I dX8_rank_10 ?_
  refine lv_iload_n C.1 C.2.1 dX8_rank_13 rfl (lv_at hl 2 rfl) ?_
  refine xl_4 C hK I (q := b) (ix_nI (by omega)) (by omega) (x := nI (t (6 + 6 * b))) (hnw.2.1 b (by omega)) dX8_rank_14 ?_
  refine lv_aload_n C.1 C.2.1 dX8_rank_15 rfl (lv_at hl 0 rfl) ?_
  refine lv_aload_n C.1 C.2.1 dX8_rank_16 rfl (lv_at hl 1 rfl) ?_
  refine x_outI hA I (b_runV C hK hO hAo I q co_want_2 hq (met_X12_wanted l E s0 ad ro v t n cg S d q  (by first | assumption | omega) (by first | assumption | omega)) (Nat.le_of_ble_eq_true rfl) rfl hl.1 rfl (Nat.le_of_ble_eq_true rfl) dX8_rank_17) (fun x_2 v9 H9 L9 hp I => ?_)
  obtain ⟨hx_2, hv9⟩ := hp
  rw [hv9] at I; subst hx_2; clear hv9
  refine n_icmp_ne C (a := t (6 + 6 * b)) (b := dWant t n 2 S d) rfl rfl (by have z0 := hT (6 + 6 * b); omega) (by have z0 := hT n; have z1 := dWant_le hgv 2; omega) dX8_rank_20 (tgt := 27) (by decide) (fun c20 => ?_) (fun c20 => ?_)
  · refine lv_iconst (v := 1) C.1 C.2.1 dX8_rank_27 (by decide) ?_
    refine e_iadd C (z := 1) (by decide) dX8_rank_28 ?_
    exact g_iret C hr9 hk9 I dX8_rank_29 (⟨by unfold dRank; rw [if_neg (by decide), if_neg (by decide)]; first | (rw [if_pos (by first | assumption | exact c20)]; rfl) | (rw [if_neg (by first | assumption | exact c20)]; rfl) | (have z : dWant t n 2 S d = dR d := rfl; rw [z]; first | (rw [if_pos c20]; rfl) | (rw [if_neg c20]; rfl)), rfl⟩)
  · refine lv_iconst (v := 0) C.1 C.2.1 dX8_rank_23 (by decide) ?_
    refine lv_goto (tgt := 28) C.1 C.2.1 dX8_rank_24 (by decide) ?_
    refine e_iadd C (z := 0) (by decide) dX8_rank_28 ?_
    exact g_iret C hr9 hk9 I dX8_rank_29 (⟨by unfold dRank; rw [if_neg (by decide), if_neg (by decide)]; first | (rw [if_pos (by first | assumption | exact c20)]; rfl) | (rw [if_neg (by first | assumption | exact c20)]; rfl) | (have z : dWant t n 2 S d = dR d := rfl; rw [z]; first | (rw [if_pos c20]; rfl) | (rw [if_neg c20]; rfl)), rfl⟩)
set_option maxHeartbeats 4000000 in
theorem met_rank_4 (l : Launch) (E : GEnv) (s0 : State) (ad : Nat → Nat) (ro : Nat → Option Nat) (v : Mem) (t : Nat → Nat) (n cg : Nat) (S : Nat → Bool) (d : Day) (q : Nat) (b : Nat) (hgv : GV v t n cg S d) (hnw : NwV v t) (hT : TB t) (hb : b < 6) (hs1 : t (6 + 6 * b) ≤ 1) (hq : OldO s0 RX11 q) (hn6 : n ≤ 6) : MyI l yX8_rank cX8_rank 3 (some .int) 2 s0 E vwCl tlA (wX ad) (rX ad ro (some (ad 2))) (rX ad ro (some (ad 2))) [.ref q, .ref (ad 12), .int (nI b)] v (fun x9 v9 => x9 = nI (dRank t n 4 cg S d b) ∧ v9 = v) := by
  refine MetXB.of RX8 [(0, .ref q), (1, .ref (ad 12)), (2, .int (nI b))] (by decide) rfl rfl (Nat.le_of_ble_eq_true rfl) ?_
  intro P9 e9 s9 m9 a9 b9 q9 c9 A9 C hK hr9 hk9 hA hO hAo I ls hl
  refine lv_aload_n C.1 C.2.1 dX8_rank_0 rfl (lv_at hl 0 rfl) ?_
  refine lv_aload_n C.1 C.2.1 dX8_rank_1 rfl (lv_at hl 1 rfl) ?_
  refine lv_iload_n C.1 C.2.1 dX8_rank_2 rfl (lv_at hl 2 rfl) ?_
  refine x_outI hA I (b_runU C hK hO hAo I q cu_X8_13 hq (met_X10_rank l E s0 ad ro v t n cg S d q b ) (Nat.le_of_ble_eq_true rfl) rfl hl.1 rfl (Nat.le_of_ble_eq_true rfl) dX8_rank_3) (fun x_1 v9 H9 L9 hp I => ?_)
  obtain ⟨hx_1, hv9⟩ := hp
  rw [hv9] at I; subst hx_1; clear hv9
  refine lv_aload_n C.1 C.2.1 dX8_rank_6 rfl (lv_at hl 1 rfl) ?_
  refine xg_X8_17_12 C hK I dX8_rank_7 ?_
  refine xg_X8_21_2 C hK I dX8_rank_10 ?_
  refine lv_iload_n C.1 C.2.1 dX8_rank_13 rfl (lv_at hl 2 rfl) ?_
  refine xl_4 C hK I (q := b) (ix_nI (by omega)) (by omega) (x := nI (t (6 + 6 * b))) (hnw.2.1 b (by omega)) dX8_rank_14 ?_
  refine lv_aload_n C.1 C.2.1 dX8_rank_15 rfl (lv_at hl 0 rfl) ?_
  refine lv_aload_n C.1 C.2.1 dX8_rank_16 rfl (lv_at hl 1 rfl) ?_
  refine x_outI hA I (b_runV C hK hO hAo I q co_want_4 hq (met_X11_wanted l E s0 ad ro v t n cg S d q  (by first | assumption | omega) (by first | assumption | omega) (by first | assumption | omega)) (Nat.le_of_ble_eq_true rfl) rfl hl.1 rfl (Nat.le_of_ble_eq_true rfl) dX8_rank_17) (fun x_2 v9 H9 L9 hp I => ?_)
  obtain ⟨hx_2, hv9⟩ := hp
  rw [hv9] at I; subst hx_2; clear hv9
  refine n_icmp_ne C (a := t (6 + 6 * b)) (b := dWant t n 4 S d) rfl rfl (by have z0 := hT (6 + 6 * b); omega) (by have z0 := hT n; have z1 := dWant_le hgv 4; omega) dX8_rank_20 (tgt := 27) (by decide) (fun c20 => ?_) (fun c20 => ?_)
  · refine lv_iconst (v := 1) C.1 C.2.1 dX8_rank_27 (by decide) ?_
    refine e_iadd C (z := 1) (by decide) dX8_rank_28 ?_
    exact g_iret C hr9 hk9 I dX8_rank_29 (⟨by unfold dRank; rw [if_neg (by decide), if_neg (by decide)]; first | (rw [if_pos (by first | assumption | exact c20)]; rfl) | (rw [if_neg (by first | assumption | exact c20)]; rfl) | (have z : dWant t n 4 S d = dR d := rfl; rw [z]; first | (rw [if_pos c20]; rfl) | (rw [if_neg c20]; rfl)), rfl⟩)
  · refine lv_iconst (v := 0) C.1 C.2.1 dX8_rank_23 (by decide) ?_
    refine lv_goto (tgt := 28) C.1 C.2.1 dX8_rank_24 (by decide) ?_
    refine e_iadd C (z := 0) (by decide) dX8_rank_28 ?_
    exact g_iret C hr9 hk9 I dX8_rank_29 (⟨by unfold dRank; rw [if_neg (by decide), if_neg (by decide)]; first | (rw [if_pos (by first | assumption | exact c20)]; rfl) | (rw [if_neg (by first | assumption | exact c20)]; rfl) | (have z : dWant t n 4 S d = dR d := rfl; rw [z]; first | (rw [if_pos c20]; rfl) | (rw [if_neg c20]; rfl)), rfl⟩)
