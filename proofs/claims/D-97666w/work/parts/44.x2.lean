/-! LockTurns: a day -/
set_option maxRecDepth 100000
set_option maxHeartbeats 4000000 in
theorem met_X0_opens (l : Launch) (E : GEnv) (s0 : State) (ad : Nat → Nat) (ro : Nat → Option Nat) (gt : Option Nat) (v : Mem) (t : Nat → Nat) (hnw : NwV v t) : MxV l yX0_opens cX0_opens 1 none 0 s0 E vwCl tlA (wX ad) (rX ad ro gt) (rX ad ro (some (ad 2))) [.ref (ad 0)] v (fun v9 => OpP t v v9) := by
  refine MetX.of RX0 [(0, .ref (ad 0))] (by decide) rfl rfl (Nat.le_of_ble_eq_true rfl) ?_
  intro P9 e9 s9 m9 a9 b9 q9 c9 A9 C hK hr9 hk9 hA hO hAo I ls hl
  refine lv_aload_n C.1 C.2.1 dX0_opens_0 rfl (lv_at hl 0 rfl) ?_
  refine xg_X0_119_0 C hK I dX0_opens_1 ?_
  refine lv_aload_n C.1 C.2.1 dX0_opens_4 rfl (lv_at hl 0 rfl) ?_
  refine xg_X0_33_0 C hK I dX0_opens_5 ?_
  refine g_putR C hK I 12 0 rfl (Nat.le_of_ble_eq_true rfl) fp_X0_123 (Nat.le_of_ble_eq_true rfl) rfl rfl rfl rfl dX0_opens_8 (fun H9 L9 I => ?_)
  have I : GI E vwCl (wX ad) (rX ad ro (some (ad 2))) A9 s9.heap _ H9 L9 := (rx_told I)
  refine lv_aload_n C.1 C.2.1 dX0_opens_11 rfl (lv_at hl 0 rfl) ?_
  refine xg_X0_119_0 C hK I dX0_opens_12 ?_
  refine lv_aload_n C.1 C.2.1 dX0_opens_15 rfl (lv_at hl 0 rfl) ?_
  refine xg_X0_33_0 C hK I dX0_opens_16 ?_
  refine xg_X0_79_2 C hK I dX0_opens_19 ?_
  refine lv_iconst (v := 2) C.1 C.2.1 dX0_opens_22 (by decide) ?_
  refine xl_3 C hK I (q := 2) ⟨by decide, rfl⟩ (by decide) (x := nI (t 2)) (hnw.1 2 (by omega)) dX0_opens_23 ?_
  refine xp_X0_126_12 C hK I dX0_opens_24 (fun H9 L9 I => ?_)
  refine lv_aload_n C.1 C.2.1 dX0_opens_27 rfl (lv_at hl 0 rfl) ?_
  refine xg_X0_119_0 C hK I dX0_opens_28 ?_
  refine lv_bipush (v := (-4)) C.1 C.2.1 dX0_opens_31 (by decide) ?_
  refine xp_X0_129_12 C hK I dX0_opens_33 (fun H9 L9 I => ?_)
  refine lv_aload_n C.1 C.2.1 dX0_opens_36 rfl (lv_at hl 0 rfl) ?_
  refine xg_X0_119_0 C hK I dX0_opens_37 ?_
  refine lv_iconst (v := 0) C.1 C.2.1 dX0_opens_40 (by decide) ?_
  refine xp_X0_132_12 C hK I dX0_opens_41 (fun H9 L9 I => ?_)
  refine lv_aload_n C.1 C.2.1 dX0_opens_44 rfl (lv_at hl 0 rfl) ?_
  refine lv_iconst (v := 0) C.1 C.2.1 dX0_opens_45 (by decide) ?_
  refine xp_X0_135_0 C hK I dX0_opens_46 (fun H9 L9 I => ?_)
  refine lv_aload_n C.1 C.2.1 dX0_opens_49 rfl (lv_at hl 0 rfl) ?_
  refine lv_iconst (v := 0) C.1 C.2.1 dX0_opens_50 (by decide) ?_
  refine xp_X0_138_0 C hK I dX0_opens_51 (fun H9 L9 I => ?_)
  refine lv_aload_n C.1 C.2.1 dX0_opens_54 rfl (lv_at hl 0 rfl) ?_
  refine lv_iconst (v := 0) C.1 C.2.1 dX0_opens_55 (by decide) ?_
  refine xp_X0_141_0 C hK I dX0_opens_56 (fun H9 L9 I => ?_)
  exact g_vret C hr9 hk9 I dX0_opens_59 (⟨by repeat (first | exact offX.rf _ | refine offX.put0 ?_ (by decide) | refine offX.putA ?_ (by decide)), rfl, rfl, rfl, rfl, rfl, rfl, rfl, fun j h0 h12 => by funext q; simp [st2, h0, h12]⟩)
set_option maxHeartbeats 4000000 in
theorem met_X0_goesThrough (l : Launch) (E : GEnv) (s0 : State) (ad : Nat → Nat) (ro : Nat → Option Nat) (v : Mem) (t : Nat → Nat) (d : Day) (b : Nat) (hnw : NwV v t) (hT : TB t) (hb : b < 6) (hsd : t (6 + 6 * b) ≤ 1) (hF : v 0 11 = nI (dF d)) (hF1 : dF d < 100000) (hR : v 12 1 = nI (dR d)) (hR1 : dR d ≤ 1) (hLa : v 12 2 = enL (dLa d)) (hLa1 : dLa d ≤ 2) (hRo : v 12 3 = nI (dRo d)) (hW : v 0 9 = nI (dW d)) (hTu : v 0 10 = nI (dT d)) : MxV l yX0_goesThrough cX0_goesThrough 5 none 1 s0 E vwCl tlA (wX ad) (rX ad ro (some (ad 2))) (rX ad ro (some (ad 2))) [.ref (ad 0), .int (nI b)] v (fun v9 => GtP t d b v v9) := by
  refine MetX.of RX0 [(0, .ref (ad 0)), (1, .int (nI b))] (by decide) rfl rfl (Nat.le_of_ble_eq_true rfl) ?_
  intro P9 e9 s9 m9 a9 b9 q9 c9 A9 C hK hr9 hk9 hA hO hAo I ls hl
  refine lv_aload_n C.1 C.2.1 dX0_goesThrough_0 rfl (lv_at hl 0 rfl) ?_
  refine xg_X0_33_0 C hK I dX0_goesThrough_1 ?_
  refine xg_X0_90_2 C hK I dX0_goesThrough_4 ?_
  refine lv_iload_n C.1 C.2.1 dX0_goesThrough_7 rfl (lv_at hl 1 rfl) ?_
  refine xl_4 C hK I (q := b) (ix_nI (by omega)) (by omega) (x := nI (t (6 + 6 * b))) (hnw.2.1 b (by omega)) dX0_goesThrough_8 ?_
  refine lv_istore_n (lv' := [(2, .int (nI (t (6 + 6 * b)))), (0, .ref (ad 0)), (1, .int (nI b))]) C.1 C.2.1 dX0_goesThrough_9 rfl hl (Nat.le_of_ble_eq_true rfl) rfl (fun ls hl => ?_)
  refine lv_aload_n C.1 C.2.1 dX0_goesThrough_10 rfl (lv_at hl 1 rfl) ?_
  refine xg_X0_119_0 C hK I dX0_goesThrough_11 ?_
  refine xg_X0_126_12 C hK I (x := nI (dR d)) hR dX0_goesThrough_14 ?_
  refine lv_iload_n C.1 C.2.1 dX0_goesThrough_17 rfl (lv_at hl 0 rfl) ?_
  refine n_icmp_eq C (a := dR d) (b := t (6 + 6 * b)) rfl rfl (by omega) (by have z0 := hT (6 + 6 * b); omega) dX0_goesThrough_18 (tgt := 25) (by decide) (fun c18 => ?_) (fun c18 => ?_)
  · refine lv_iconst (v := 0) C.1 C.2.1 dX0_goesThrough_25 (by decide) ?_
    refine lv_istore_n (lv' := [(3, .int 0), (2, .int (nI (t (6 + 6 * b)))), (0, .ref (ad 0)), (1, .int (nI b))]) C.1 C.2.1 dX0_goesThrough_26 rfl hl (Nat.le_of_ble_eq_true rfl) rfl (fun ls hl => ?_)
    refine lv_aload_n C.1 C.2.1 dX0_goesThrough_27 rfl (lv_at hl 2 rfl) ?_
    refine xg_X0_141_0 C hK I (x := nI (dF d)) hF dX0_goesThrough_28 ?_
    refine lv_iload_n C.1 C.2.1 dX0_goesThrough_31 rfl (lv_at hl 0 rfl) ?_
    refine t_if_eq C (by decide) dX0_goesThrough_32 (tgt := 47) (by decide) ?_
    refine lv_iconst (v := 0) C.1 C.2.1 dX0_goesThrough_47 (by decide) ?_
    refine n_add C (a := dF d) (b := 0) rfl rfl dX0_goesThrough_48 ?_
    refine lv_aload_n C.1 C.2.1 dX0_goesThrough_49 rfl (lv_at hl 2 rfl) ?_
    refine xg_X0_33_0 C hK I dX0_goesThrough_50 ?_
    refine xg_X0_93_2 C hK I dX0_goesThrough_53 ?_
    refine lv_iload_n C.1 C.2.1 dX0_goesThrough_56 rfl (lv_at hl 3 rfl) ?_
    refine xa_5 C hK I (q := b) (ix_nI (by omega)) (by omega) dX0_goesThrough_57 ?_
    refine lv_iconst (v := 1) C.1 C.2.1 dX0_goesThrough_58 (by decide) ?_
    refine xl_b C hK I (b := b) (by omega) (q := 1) ⟨by decide, rfl⟩ (by decide) (x := nI (t (6 + 6 * b + 2))) (hnw.b (by omega) (k := 1) (by decide)) dX0_goesThrough_59 ?_
    refine x_maxN C (a := (dF d) + 0) (b := t (6 + 6 * b + 2)) rfl rfl (by omega) (by have z0 := hT (6 + 6 * b + 2); omega) hl.1 (Nat.le_of_ble_eq_true rfl) (Nat.le_of_ble_eq_true rfl) mxL_X0 dX0_goesThrough_60 ?_
    refine lv_istore (lv' := [(4, .int (nI (if (dF d) + 0 < t (6 + 6 * b + 2) then t (6 + 6 * b + 2) else (dF d) + 0))), (3, .int 0), (2, .int (nI (t (6 + 6 * b)))), (0, .ref (ad 0)), (1, .int (nI b))]) C.1 C.2.1 dX0_goesThrough_63 hl (Nat.le_of_ble_eq_true rfl) rfl (fun ls hl => ?_)
    refine lv_aload_n C.1 C.2.1 dX0_goesThrough_65 rfl (lv_at hl 3 rfl) ?_
    refine lv_dup C.1 C.2.1 dX0_goesThrough_66 rfl ?_
    refine xg_X0_138_0 C hK I (x := nI (dT d)) hTu dX0_goesThrough_67 ?_
    refine lv_iload_n C.1 C.2.1 dX0_goesThrough_70 rfl (lv_at hl 1 rfl) ?_
    refine t_if_eq C (by decide) dX0_goesThrough_71 (tgt := 78) (by decide) ?_
    refine lv_iconst (v := 0) C.1 C.2.1 dX0_goesThrough_78 (by decide) ?_
    refine n_add C (a := dT d) (b := 0) rfl rfl dX0_goesThrough_79 ?_
    refine xp_X0_138_0 C hK I dX0_goesThrough_80 (fun H9 L9 I => ?_)
    refine lv_aload_n C.1 C.2.1 dX0_goesThrough_83 rfl (lv_at hl 3 rfl) ?_
    refine lv_dup C.1 C.2.1 dX0_goesThrough_84 rfl ?_
    refine xg_X0_135_0 C hK I (x := nI (dW d)) (show _ = _ from hW) dX0_goesThrough_85 ?_
    refine lv_iload_n C.1 C.2.1 dX0_goesThrough_88 rfl (lv_at hl 1 rfl) ?_
    refine t_if_eq C (by decide) dX0_goesThrough_89 (tgt := 101) (by decide) ?_
    refine lv_iconst (v := 0) C.1 C.2.1 dX0_goesThrough_101 (by decide) ?_
    refine lv_iload_n C.1 C.2.1 dX0_goesThrough_102 rfl (lv_at hl 2 rfl) ?_
    refine n_if_ne C (a := t (6 + 6 * b)) rfl (by have z0 := hT (6 + 6 * b); omega) dX0_goesThrough_103 (tgt := 110) (by decide) (fun c103 => ?_) (fun c103 => ?_)
    · refine lv_iconst (v := 0) C.1 C.2.1 dX0_goesThrough_110 (by decide) ?_
      refine e_iadd C (z := 0) (by decide) dX0_goesThrough_111 ?_
      refine n_add C (a := dW d) (b := 0) rfl rfl dX0_goesThrough_112 ?_
      refine xp_X0_135_0 C hK I dX0_goesThrough_113 (fun H9 L9 I => ?_)
      refine lv_aload_n C.1 C.2.1 dX0_goesThrough_116 rfl (lv_at hl 3 rfl) ?_
      refine xg_X0_119_0 C hK I dX0_goesThrough_117 ?_
      refine lv_iload_n C.1 C.2.1 dX0_goesThrough_120 rfl (lv_at hl 2 rfl) ?_
      refine lv_aload_n C.1 C.2.1 dX0_goesThrough_121 rfl (lv_at hl 3 rfl) ?_
      refine xg_X0_119_0 C hK I dX0_goesThrough_122 ?_
      refine xg_X0_129_12 C hK I (x := enL (dLa d)) (show _ = _ from hLa) dX0_goesThrough_125 ?_
      refine z_icmp_ne C dX0_goesThrough_128 (tgt := 143) (by decide) (fun c128 => ?_) (fun c128 => ?_)
      · have k128 : t (6 + 6 * b) ≠ dLa d := fun q => c128 ((enL_eq hsd hLa1).mpr q)
        refine lv_iconst (v := 1) C.1 C.2.1 dX0_goesThrough_143 (by decide) ?_
        refine xp_X0_132_12 C hK I dX0_goesThrough_144 (fun H9 L9 I => ?_)
        refine lv_aload_n C.1 C.2.1 dX0_goesThrough_147 rfl (lv_at hl 3 rfl) ?_
        refine xg_X0_119_0 C hK I dX0_goesThrough_148 ?_
        refine lv_iload_n C.1 C.2.1 dX0_goesThrough_151 rfl (lv_at hl 2 rfl) ?_
        refine xp_X0_129_12 C hK I dX0_goesThrough_152 (fun H9 L9 I => ?_)
        refine lv_aload_n C.1 C.2.1 dX0_goesThrough_155 rfl (lv_at hl 3 rfl) ?_
        refine xg_X0_119_0 C hK I dX0_goesThrough_156 ?_
        refine lv_iconst (v := 1) C.1 C.2.1 dX0_goesThrough_159 (by decide) ?_
        refine lv_iload_n C.1 C.2.1 dX0_goesThrough_160 rfl (lv_at hl 2 rfl) ?_
        refine n_sub C (a := 1) (b := t (6 + 6 * b)) rfl rfl (by have z0 := hT (6 + 6 * b); omega) dX0_goesThrough_161 ?_
        refine xp_X0_126_12 C hK I dX0_goesThrough_162 (fun H9 L9 I => ?_)
        refine lv_aload_n C.1 C.2.1 dX0_goesThrough_165 rfl (lv_at hl 3 rfl) ?_
        refine xg_X0_150_0 C hK I dX0_goesThrough_166 ?_
        refine lv_iload_n C.1 C.2.1 dX0_goesThrough_169 rfl (lv_at hl 4 rfl) ?_
        refine lv_iload C.1 C.2.1 dX0_goesThrough_170 (lv_at hl 0 rfl) ?_
        refine lv_aload_n C.1 C.2.1 dX0_goesThrough_172 rfl (lv_at hl 3 rfl) ?_
        refine xg_X0_33_0 C hK I dX0_goesThrough_173 ?_
        refine xg_X0_93_2 C hK I dX0_goesThrough_176 ?_
        refine lv_iload_n C.1 C.2.1 dX0_goesThrough_179 rfl (lv_at hl 4 rfl) ?_
        refine xa_5 C hK I (q := b) (ix_nI (by omega)) (by omega) dX0_goesThrough_180 ?_
        refine lv_iconst (v := 1) C.1 C.2.1 dX0_goesThrough_181 (by decide) ?_
        refine xl_b C hK I (b := b) (by omega) (q := 1) ⟨by decide, rfl⟩ (by decide) (x := nI (t (6 + 6 * b + 2))) (by rw [st2_cell _ _ _ (show (6 + b : Nat) ≠ 12 by omega), st2_cell _ _ _ (show (6 + b : Nat) ≠ 12 by omega), st2_cell _ _ _ (show (6 + b : Nat) ≠ 12 by omega), st2_cell _ _ _ (show (6 + b : Nat) ≠ 0 by omega), st2_cell _ _ _ (show (6 + b : Nat) ≠ 0 by omega)]; exact (hnw.b (by omega) (k := 1) (by decide))) dX0_goesThrough_182 ?_
        refine n_sub C (a := (if (dF d) + 0 < t (6 + 6 * b + 2) then t (6 + 6 * b + 2) else (dF d) + 0)) (b := t (6 + 6 * b + 2)) rfl rfl (by have z0 := hT (6 + 6 * b + 2); (first | omega | ((repeat' split) <;> omega))) dX0_goesThrough_183 ?_
        refine xs_16 C hK I (q := b) (ix_nI (by omega)) (by omega) dX0_goesThrough_184 (fun H9 L9 I => ?_)
        refine lv_aload_n C.1 C.2.1 dX0_goesThrough_185 rfl (lv_at hl 3 rfl) ?_
        refine lv_iload C.1 C.2.1 dX0_goesThrough_186 (lv_at hl 0 rfl) ?_
        refine lv_aload_n C.1 C.2.1 dX0_goesThrough_188 rfl (lv_at hl 3 rfl) ?_
        refine xg_X0_33_0 C hK I dX0_goesThrough_189 ?_
        refine xg_X0_79_2 C hK I dX0_goesThrough_192 ?_
        refine lv_iconst (v := 0) C.1 C.2.1 dX0_goesThrough_195 (by decide) ?_
        refine xl_3 C hK I (q := 0) ⟨by decide, rfl⟩ (by decide) (x := nI (t 0)) (show _ = _ from (hnw.1 0 (by omega))) dX0_goesThrough_196 ?_
        refine n_add C (a := (if (dF d) + 0 < t (6 + 6 * b + 2) then t (6 + 6 * b + 2) else (dF d) + 0)) (b := t 0) rfl rfl dX0_goesThrough_197 ?_
        refine xp_X0_141_0 C hK I dX0_goesThrough_198 (fun H9 L9 I => ?_)
        refine lv_aload_n C.1 C.2.1 dX0_goesThrough_201 rfl (lv_at hl 3 rfl) ?_
        refine xg_X0_153_0 C hK I dX0_goesThrough_202 ?_
        refine lv_iload_n C.1 C.2.1 dX0_goesThrough_205 rfl (lv_at hl 4 rfl) ?_
        refine lv_aload_n C.1 C.2.1 dX0_goesThrough_206 rfl (lv_at hl 3 rfl) ?_
        refine xg_X0_141_0 C hK I (x := nI ((if (dF d) + 0 < t (6 + 6 * b + 2) then t (6 + 6 * b + 2) else (dF d) + 0) + (t 0))) rfl dX0_goesThrough_207 ?_
        refine xs_15 C hK I (q := b) (ix_nI (by omega)) (by omega) dX0_goesThrough_210 (fun H9 L9 I => ?_)
        exact g_vret C hr9 hk9 I dX0_goesThrough_211 (by have eB : dBeg t d b = (if (dF d) + 0 < t (6 + 6 * b + 2) then t (6 + 6 * b + 2) else (dF d) + 0) := (by unfold dBeg; (repeat' split) <;> omega); have eW : dW (dLet t d b) = (dW d) + 0 := (by show dW d + (if t (6 + 6 * b) ≠ dR d ∧ t (6 + 6 * b) = 1 then 1 else 0) + (if t (6 + 6 * b) = 0 then 1 else 0) = _; (repeat' split) <;> omega); have eT : dT (dLet t d b) = (dT d) + 0 := (by show dT d + (if t (6 + 6 * b) ≠ dR d then 1 else 0) = _; (repeat' split) <;> omega); have eR : dRo (dLet t d b) = 1 := (by show (if t (6 + 6 * b) = dLa d then dRo d + 1 else 1) = _; (repeat' split) <;> omega); exact ⟨by repeat (first | exact offX.rf _ | refine offX.put0 ?_ (by decide) | refine offX.putA ?_ (by decide)), rfl, rfl, rfl, by show nI ((if (dF d) + 0 < t (6 + 6 * b + 2) then t (6 + 6 * b + 2) else (dF d) + 0) + t 0) = nI (dBeg t d b + t 0); rw [eB], rfl, rfl, by rw [eR]; rfl, by rw [eW]; rfl, by rw [eT]; rfl, by intro i; rw [eB]; simp [st2], by intro i; rw [eB]; simp [st2]⟩)
      · have k128 : t (6 + 6 * b) = dLa d := (enL_eq hsd hLa1).mp c128
        refine lv_aload_n C.1 C.2.1 dX0_goesThrough_131 rfl (lv_at hl 3 rfl) ?_
        refine xg_X0_119_0 C hK I dX0_goesThrough_132 ?_
        refine xg_X0_132_12 C hK I (x := nI (dRo d)) (show _ = _ from hRo) dX0_goesThrough_135 ?_
        refine lv_iconst (v := 1) C.1 C.2.1 dX0_goesThrough_138 (by decide) ?_
        refine n_add C (a := dRo d) (b := 1) rfl rfl dX0_goesThrough_139 ?_
        refine lv_goto (tgt := 144) C.1 C.2.1 dX0_goesThrough_140 (by decide) ?_
        refine xp_X0_132_12 C hK I dX0_goesThrough_144 (fun H9 L9 I => ?_)
        refine lv_aload_n C.1 C.2.1 dX0_goesThrough_147 rfl (lv_at hl 3 rfl) ?_
        refine xg_X0_119_0 C hK I dX0_goesThrough_148 ?_
        refine lv_iload_n C.1 C.2.1 dX0_goesThrough_151 rfl (lv_at hl 2 rfl) ?_
        refine xp_X0_129_12 C hK I dX0_goesThrough_152 (fun H9 L9 I => ?_)
        refine lv_aload_n C.1 C.2.1 dX0_goesThrough_155 rfl (lv_at hl 3 rfl) ?_
        refine xg_X0_119_0 C hK I dX0_goesThrough_156 ?_
        refine lv_iconst (v := 1) C.1 C.2.1 dX0_goesThrough_159 (by decide) ?_
        refine lv_iload_n C.1 C.2.1 dX0_goesThrough_160 rfl (lv_at hl 2 rfl) ?_
        refine n_sub C (a := 1) (b := t (6 + 6 * b)) rfl rfl (by have z0 := hT (6 + 6 * b); omega) dX0_goesThrough_161 ?_
        refine xp_X0_126_12 C hK I dX0_goesThrough_162 (fun H9 L9 I => ?_)
        refine lv_aload_n C.1 C.2.1 dX0_goesThrough_165 rfl (lv_at hl 3 rfl) ?_
        refine xg_X0_150_0 C hK I dX0_goesThrough_166 ?_
        refine lv_iload_n C.1 C.2.1 dX0_goesThrough_169 rfl (lv_at hl 4 rfl) ?_
        refine lv_iload C.1 C.2.1 dX0_goesThrough_170 (lv_at hl 0 rfl) ?_
        refine lv_aload_n C.1 C.2.1 dX0_goesThrough_172 rfl (lv_at hl 3 rfl) ?_
        refine xg_X0_33_0 C hK I dX0_goesThrough_173 ?_
        refine xg_X0_93_2 C hK I dX0_goesThrough_176 ?_
        refine lv_iload_n C.1 C.2.1 dX0_goesThrough_179 rfl (lv_at hl 4 rfl) ?_
        refine xa_5 C hK I (q := b) (ix_nI (by omega)) (by omega) dX0_goesThrough_180 ?_
        refine lv_iconst (v := 1) C.1 C.2.1 dX0_goesThrough_181 (by decide) ?_
        refine xl_b C hK I (b := b) (by omega) (q := 1) ⟨by decide, rfl⟩ (by decide) (x := nI (t (6 + 6 * b + 2))) (by rw [st2_cell _ _ _ (show (6 + b : Nat) ≠ 12 by omega), st2_cell _ _ _ (show (6 + b : Nat) ≠ 12 by omega), st2_cell _ _ _ (show (6 + b : Nat) ≠ 12 by omega), st2_cell _ _ _ (show (6 + b : Nat) ≠ 0 by omega), st2_cell _ _ _ (show (6 + b : Nat) ≠ 0 by omega)]; exact (hnw.b (by omega) (k := 1) (by decide))) dX0_goesThrough_182 ?_
        refine n_sub C (a := (if (dF d) + 0 < t (6 + 6 * b + 2) then t (6 + 6 * b + 2) else (dF d) + 0)) (b := t (6 + 6 * b + 2)) rfl rfl (by have z0 := hT (6 + 6 * b + 2); (first | omega | ((repeat' split) <;> omega))) dX0_goesThrough_183 ?_
        refine xs_16 C hK I (q := b) (ix_nI (by omega)) (by omega) dX0_goesThrough_184 (fun H9 L9 I => ?_)
        refine lv_aload_n C.1 C.2.1 dX0_goesThrough_185 rfl (lv_at hl 3 rfl) ?_
        refine lv_iload C.1 C.2.1 dX0_goesThrough_186 (lv_at hl 0 rfl) ?_
        refine lv_aload_n C.1 C.2.1 dX0_goesThrough_188 rfl (lv_at hl 3 rfl) ?_
        refine xg_X0_33_0 C hK I dX0_goesThrough_189 ?_
        refine xg_X0_79_2 C hK I dX0_goesThrough_192 ?_
        refine lv_iconst (v := 0) C.1 C.2.1 dX0_goesThrough_195 (by decide) ?_
        refine xl_3 C hK I (q := 0) ⟨by decide, rfl⟩ (by decide) (x := nI (t 0)) (show _ = _ from (hnw.1 0 (by omega))) dX0_goesThrough_196 ?_
        refine n_add C (a := (if (dF d) + 0 < t (6 + 6 * b + 2) then t (6 + 6 * b + 2) else (dF d) + 0)) (b := t 0) rfl rfl dX0_goesThrough_197 ?_
        refine xp_X0_141_0 C hK I dX0_goesThrough_198 (fun H9 L9 I => ?_)
        refine lv_aload_n C.1 C.2.1 dX0_goesThrough_201 rfl (lv_at hl 3 rfl) ?_
        refine xg_X0_153_0 C hK I dX0_goesThrough_202 ?_
        refine lv_iload_n C.1 C.2.1 dX0_goesThrough_205 rfl (lv_at hl 4 rfl) ?_
        refine lv_aload_n C.1 C.2.1 dX0_goesThrough_206 rfl (lv_at hl 3 rfl) ?_
        refine xg_X0_141_0 C hK I (x := nI ((if (dF d) + 0 < t (6 + 6 * b + 2) then t (6 + 6 * b + 2) else (dF d) + 0) + (t 0))) rfl dX0_goesThrough_207 ?_
        refine xs_15 C hK I (q := b) (ix_nI (by omega)) (by omega) dX0_goesThrough_210 (fun H9 L9 I => ?_)
        exact g_vret C hr9 hk9 I dX0_goesThrough_211 (by have eB : dBeg t d b = (if (dF d) + 0 < t (6 + 6 * b + 2) then t (6 + 6 * b + 2) else (dF d) + 0) := (by unfold dBeg; (repeat' split) <;> omega); have eW : dW (dLet t d b) = (dW d) + 0 := (by show dW d + (if t (6 + 6 * b) ≠ dR d ∧ t (6 + 6 * b) = 1 then 1 else 0) + (if t (6 + 6 * b) = 0 then 1 else 0) = _; (repeat' split) <;> omega); have eT : dT (dLet t d b) = (dT d) + 0 := (by show dT d + (if t (6 + 6 * b) ≠ dR d then 1 else 0) = _; (repeat' split) <;> omega); have eR : dRo (dLet t d b) = (dRo d) + 1 := (by show (if t (6 + 6 * b) = dLa d then dRo d + 1 else 1) = _; (repeat' split) <;> omega); exact ⟨by repeat (first | exact offX.rf _ | refine offX.put0 ?_ (by decide) | refine offX.putA ?_ (by decide)), rfl, rfl, rfl, by show nI ((if (dF d) + 0 < t (6 + 6 * b + 2) then t (6 + 6 * b + 2) else (dF d) + 0) + t 0) = nI (dBeg t d b + t 0); rw [eB], rfl, rfl, by rw [eR]; rfl, by rw [eW]; rfl, by rw [eT]; rfl, by intro i; rw [eB]; simp [st2], by intro i; rw [eB]; simp [st2]⟩)
    · refine lv_iconst (v := 1) C.1 C.2.1 dX0_goesThrough_106 (by decide) ?_
      refine lv_goto (tgt := 111) C.1 C.2.1 dX0_goesThrough_107 (by decide) ?_
      refine e_iadd C (z := 1) (by decide) dX0_goesThrough_111 ?_
      refine n_add C (a := dW d) (b := 1) rfl rfl dX0_goesThrough_112 ?_
      refine xp_X0_135_0 C hK I dX0_goesThrough_113 (fun H9 L9 I => ?_)
      refine lv_aload_n C.1 C.2.1 dX0_goesThrough_116 rfl (lv_at hl 3 rfl) ?_
      refine xg_X0_119_0 C hK I dX0_goesThrough_117 ?_
      refine lv_iload_n C.1 C.2.1 dX0_goesThrough_120 rfl (lv_at hl 2 rfl) ?_
      refine lv_aload_n C.1 C.2.1 dX0_goesThrough_121 rfl (lv_at hl 3 rfl) ?_
      refine xg_X0_119_0 C hK I dX0_goesThrough_122 ?_
      refine xg_X0_129_12 C hK I (x := enL (dLa d)) (show _ = _ from hLa) dX0_goesThrough_125 ?_
      refine z_icmp_ne C dX0_goesThrough_128 (tgt := 143) (by decide) (fun c128 => ?_) (fun c128 => ?_)
      · have k128 : t (6 + 6 * b) ≠ dLa d := fun q => c128 ((enL_eq hsd hLa1).mpr q)
        refine lv_iconst (v := 1) C.1 C.2.1 dX0_goesThrough_143 (by decide) ?_
        refine xp_X0_132_12 C hK I dX0_goesThrough_144 (fun H9 L9 I => ?_)
        refine lv_aload_n C.1 C.2.1 dX0_goesThrough_147 rfl (lv_at hl 3 rfl) ?_
        refine xg_X0_119_0 C hK I dX0_goesThrough_148 ?_
        refine lv_iload_n C.1 C.2.1 dX0_goesThrough_151 rfl (lv_at hl 2 rfl) ?_
        refine xp_X0_129_12 C hK I dX0_goesThrough_152 (fun H9 L9 I => ?_)
        refine lv_aload_n C.1 C.2.1 dX0_goesThrough_155 rfl (lv_at hl 3 rfl) ?_
        refine xg_X0_119_0 C hK I dX0_goesThrough_156 ?_
        refine lv_iconst (v := 1) C.1 C.2.1 dX0_goesThrough_159 (by decide) ?_
        refine lv_iload_n C.1 C.2.1 dX0_goesThrough_160 rfl (lv_at hl 2 rfl) ?_
        refine n_sub C (a := 1) (b := t (6 + 6 * b)) rfl rfl (by have z0 := hT (6 + 6 * b); omega) dX0_goesThrough_161 ?_
        refine xp_X0_126_12 C hK I dX0_goesThrough_162 (fun H9 L9 I => ?_)
        refine lv_aload_n C.1 C.2.1 dX0_goesThrough_165 rfl (lv_at hl 3 rfl) ?_
        refine xg_X0_150_0 C hK I dX0_goesThrough_166 ?_
        refine lv_iload_n C.1 C.2.1 dX0_goesThrough_169 rfl (lv_at hl 4 rfl) ?_
        refine lv_iload C.1 C.2.1 dX0_goesThrough_170 (lv_at hl 0 rfl) ?_
        refine lv_aload_n C.1 C.2.1 dX0_goesThrough_172 rfl (lv_at hl 3 rfl) ?_
        refine xg_X0_33_0 C hK I dX0_goesThrough_173 ?_
        refine xg_X0_93_2 C hK I dX0_goesThrough_176 ?_
        refine lv_iload_n C.1 C.2.1 dX0_goesThrough_179 rfl (lv_at hl 4 rfl) ?_
        refine xa_5 C hK I (q := b) (ix_nI (by omega)) (by omega) dX0_goesThrough_180 ?_
        refine lv_iconst (v := 1) C.1 C.2.1 dX0_goesThrough_181 (by decide) ?_
        refine xl_b C hK I (b := b) (by omega) (q := 1) ⟨by decide, rfl⟩ (by decide) (x := nI (t (6 + 6 * b + 2))) (by rw [st2_cell _ _ _ (show (6 + b : Nat) ≠ 12 by omega), st2_cell _ _ _ (show (6 + b : Nat) ≠ 12 by omega), st2_cell _ _ _ (show (6 + b : Nat) ≠ 12 by omega), st2_cell _ _ _ (show (6 + b : Nat) ≠ 0 by omega), st2_cell _ _ _ (show (6 + b : Nat) ≠ 0 by omega)]; exact (hnw.b (by omega) (k := 1) (by decide))) dX0_goesThrough_182 ?_
        refine n_sub C (a := (if (dF d) + 0 < t (6 + 6 * b + 2) then t (6 + 6 * b + 2) else (dF d) + 0)) (b := t (6 + 6 * b + 2)) rfl rfl (by have z0 := hT (6 + 6 * b + 2); (first | omega | ((repeat' split) <;> omega))) dX0_goesThrough_183 ?_
        refine xs_16 C hK I (q := b) (ix_nI (by omega)) (by omega) dX0_goesThrough_184 (fun H9 L9 I => ?_)
        refine lv_aload_n C.1 C.2.1 dX0_goesThrough_185 rfl (lv_at hl 3 rfl) ?_
        refine lv_iload C.1 C.2.1 dX0_goesThrough_186 (lv_at hl 0 rfl) ?_
        refine lv_aload_n C.1 C.2.1 dX0_goesThrough_188 rfl (lv_at hl 3 rfl) ?_
        refine xg_X0_33_0 C hK I dX0_goesThrough_189 ?_
        refine xg_X0_79_2 C hK I dX0_goesThrough_192 ?_
        refine lv_iconst (v := 0) C.1 C.2.1 dX0_goesThrough_195 (by decide) ?_
        refine xl_3 C hK I (q := 0) ⟨by decide, rfl⟩ (by decide) (x := nI (t 0)) (show _ = _ from (hnw.1 0 (by omega))) dX0_goesThrough_196 ?_
        refine n_add C (a := (if (dF d) + 0 < t (6 + 6 * b + 2) then t (6 + 6 * b + 2) else (dF d) + 0)) (b := t 0) rfl rfl dX0_goesThrough_197 ?_
        refine xp_X0_141_0 C hK I dX0_goesThrough_198 (fun H9 L9 I => ?_)
        refine lv_aload_n C.1 C.2.1 dX0_goesThrough_201 rfl (lv_at hl 3 rfl) ?_
        refine xg_X0_153_0 C hK I dX0_goesThrough_202 ?_
        refine lv_iload_n C.1 C.2.1 dX0_goesThrough_205 rfl (lv_at hl 4 rfl) ?_
        refine lv_aload_n C.1 C.2.1 dX0_goesThrough_206 rfl (lv_at hl 3 rfl) ?_
        refine xg_X0_141_0 C hK I (x := nI ((if (dF d) + 0 < t (6 + 6 * b + 2) then t (6 + 6 * b + 2) else (dF d) + 0) + (t 0))) rfl dX0_goesThrough_207 ?_
        refine xs_15 C hK I (q := b) (ix_nI (by omega)) (by omega) dX0_goesThrough_210 (fun H9 L9 I => ?_)
        exact g_vret C hr9 hk9 I dX0_goesThrough_211 (by have eB : dBeg t d b = (if (dF d) + 0 < t (6 + 6 * b + 2) then t (6 + 6 * b + 2) else (dF d) + 0) := (by unfold dBeg; (repeat' split) <;> omega); have eW : dW (dLet t d b) = (dW d) + 1 := (by show dW d + (if t (6 + 6 * b) ≠ dR d ∧ t (6 + 6 * b) = 1 then 1 else 0) + (if t (6 + 6 * b) = 0 then 1 else 0) = _; (repeat' split) <;> omega); have eT : dT (dLet t d b) = (dT d) + 0 := (by show dT d + (if t (6 + 6 * b) ≠ dR d then 1 else 0) = _; (repeat' split) <;> omega); have eR : dRo (dLet t d b) = 1 := (by show (if t (6 + 6 * b) = dLa d then dRo d + 1 else 1) = _; (repeat' split) <;> omega); exact ⟨by repeat (first | exact offX.rf _ | refine offX.put0 ?_ (by decide) | refine offX.putA ?_ (by decide)), rfl, rfl, rfl, by show nI ((if (dF d) + 0 < t (6 + 6 * b + 2) then t (6 + 6 * b + 2) else (dF d) + 0) + t 0) = nI (dBeg t d b + t 0); rw [eB], rfl, rfl, by rw [eR]; rfl, by rw [eW]; rfl, by rw [eT]; rfl, by intro i; rw [eB]; simp [st2], by intro i; rw [eB]; simp [st2]⟩)
      · have k128 : t (6 + 6 * b) = dLa d := (enL_eq hsd hLa1).mp c128
        refine lv_aload_n C.1 C.2.1 dX0_goesThrough_131 rfl (lv_at hl 3 rfl) ?_
        refine xg_X0_119_0 C hK I dX0_goesThrough_132 ?_
        refine xg_X0_132_12 C hK I (x := nI (dRo d)) (show _ = _ from hRo) dX0_goesThrough_135 ?_
        refine lv_iconst (v := 1) C.1 C.2.1 dX0_goesThrough_138 (by decide) ?_
        refine n_add C (a := dRo d) (b := 1) rfl rfl dX0_goesThrough_139 ?_
        refine lv_goto (tgt := 144) C.1 C.2.1 dX0_goesThrough_140 (by decide) ?_
        refine xp_X0_132_12 C hK I dX0_goesThrough_144 (fun H9 L9 I => ?_)
        refine lv_aload_n C.1 C.2.1 dX0_goesThrough_147 rfl (lv_at hl 3 rfl) ?_
        refine xg_X0_119_0 C hK I dX0_goesThrough_148 ?_
        refine lv_iload_n C.1 C.2.1 dX0_goesThrough_151 rfl (lv_at hl 2 rfl) ?_
        refine xp_X0_129_12 C hK I dX0_goesThrough_152 (fun H9 L9 I => ?_)
        refine lv_aload_n C.1 C.2.1 dX0_goesThrough_155 rfl (lv_at hl 3 rfl) ?_
        refine xg_X0_119_0 C hK I dX0_goesThrough_156 ?_
        refine lv_iconst (v := 1) C.1 C.2.1 dX0_goesThrough_159 (by decide) ?_
        refine lv_iload_n C.1 C.2.1 dX0_goesThrough_160 rfl (lv_at hl 2 rfl) ?_
        refine n_sub C (a := 1) (b := t (6 + 6 * b)) rfl rfl (by have z0 := hT (6 + 6 * b); omega) dX0_goesThrough_161 ?_
        refine xp_X0_126_12 C hK I dX0_goesThrough_162 (fun H9 L9 I => ?_)
        refine lv_aload_n C.1 C.2.1 dX0_goesThrough_165 rfl (lv_at hl 3 rfl) ?_
        refine xg_X0_150_0 C hK I dX0_goesThrough_166 ?_
        refine lv_iload_n C.1 C.2.1 dX0_goesThrough_169 rfl (lv_at hl 4 rfl) ?_
        refine lv_iload C.1 C.2.1 dX0_goesThrough_170 (lv_at hl 0 rfl) ?_
        refine lv_aload_n C.1 C.2.1 dX0_goesThrough_172 rfl (lv_at hl 3 rfl) ?_
        refine xg_X0_33_0 C hK I dX0_goesThrough_173 ?_
        refine xg_X0_93_2 C hK I dX0_goesThrough_176 ?_
        refine lv_iload_n C.1 C.2.1 dX0_goesThrough_179 rfl (lv_at hl 4 rfl) ?_
        refine xa_5 C hK I (q := b) (ix_nI (by omega)) (by omega) dX0_goesThrough_180 ?_
        refine lv_iconst (v := 1) C.1 C.2.1 dX0_goesThrough_181 (by decide) ?_
        refine xl_b C hK I (b := b) (by omega) (q := 1) ⟨by decide, rfl⟩ (by decide) (x := nI (t (6 + 6 * b + 2))) (by rw [st2_cell _ _ _ (show (6 + b : Nat) ≠ 12 by omega), st2_cell _ _ _ (show (6 + b : Nat) ≠ 12 by omega), st2_cell _ _ _ (show (6 + b : Nat) ≠ 12 by omega), st2_cell _ _ _ (show (6 + b : Nat) ≠ 0 by omega), st2_cell _ _ _ (show (6 + b : Nat) ≠ 0 by omega)]; exact (hnw.b (by omega) (k := 1) (by decide))) dX0_goesThrough_182 ?_
        refine n_sub C (a := (if (dF d) + 0 < t (6 + 6 * b + 2) then t (6 + 6 * b + 2) else (dF d) + 0)) (b := t (6 + 6 * b + 2)) rfl rfl (by have z0 := hT (6 + 6 * b + 2); (first | omega | ((repeat' split) <;> omega))) dX0_goesThrough_183 ?_
        refine xs_16 C hK I (q := b) (ix_nI (by omega)) (by omega) dX0_goesThrough_184 (fun H9 L9 I => ?_)
        refine lv_aload_n C.1 C.2.1 dX0_goesThrough_185 rfl (lv_at hl 3 rfl) ?_
        refine lv_iload C.1 C.2.1 dX0_goesThrough_186 (lv_at hl 0 rfl) ?_
        refine lv_aload_n C.1 C.2.1 dX0_goesThrough_188 rfl (lv_at hl 3 rfl) ?_
        refine xg_X0_33_0 C hK I dX0_goesThrough_189 ?_
        refine xg_X0_79_2 C hK I dX0_goesThrough_192 ?_
        refine lv_iconst (v := 0) C.1 C.2.1 dX0_goesThrough_195 (by decide) ?_
        refine xl_3 C hK I (q := 0) ⟨by decide, rfl⟩ (by decide) (x := nI (t 0)) (show _ = _ from (hnw.1 0 (by omega))) dX0_goesThrough_196 ?_
        refine n_add C (a := (if (dF d) + 0 < t (6 + 6 * b + 2) then t (6 + 6 * b + 2) else (dF d) + 0)) (b := t 0) rfl rfl dX0_goesThrough_197 ?_
        refine xp_X0_141_0 C hK I dX0_goesThrough_198 (fun H9 L9 I => ?_)
        refine lv_aload_n C.1 C.2.1 dX0_goesThrough_201 rfl (lv_at hl 3 rfl) ?_
        refine xg_X0_153_0 C hK I dX0_goesThrough_202 ?_
        refine lv_iload_n C.1 C.2.1 dX0_goesThrough_205 rfl (lv_at hl 4 rfl) ?_
        refine lv_aload_n C.1 C.2.1 dX0_goesThrough_206 rfl (lv_at hl 3 rfl) ?_
        refine xg_X0_141_0 C hK I (x := nI ((if (dF d) + 0 < t (6 + 6 * b + 2) then t (6 + 6 * b + 2) else (dF d) + 0) + (t 0))) rfl dX0_goesThrough_207 ?_
        refine xs_15 C hK I (q := b) (ix_nI (by omega)) (by omega) dX0_goesThrough_210 (fun H9 L9 I => ?_)
        exact g_vret C hr9 hk9 I dX0_goesThrough_211 (by have eB : dBeg t d b = (if (dF d) + 0 < t (6 + 6 * b + 2) then t (6 + 6 * b + 2) else (dF d) + 0) := (by unfold dBeg; (repeat' split) <;> omega); have eW : dW (dLet t d b) = (dW d) + 1 := (by show dW d + (if t (6 + 6 * b) ≠ dR d ∧ t (6 + 6 * b) = 1 then 1 else 0) + (if t (6 + 6 * b) = 0 then 1 else 0) = _; (repeat' split) <;> omega); have eT : dT (dLet t d b) = (dT d) + 0 := (by show dT d + (if t (6 + 6 * b) ≠ dR d then 1 else 0) = _; (repeat' split) <;> omega); have eR : dRo (dLet t d b) = (dRo d) + 1 := (by show (if t (6 + 6 * b) = dLa d then dRo d + 1 else 1) = _; (repeat' split) <;> omega); exact ⟨by repeat (first | exact offX.rf _ | refine offX.put0 ?_ (by decide) | refine offX.putA ?_ (by decide)), rfl, rfl, rfl, by show nI ((if (dF d) + 0 < t (6 + 6 * b + 2) then t (6 + 6 * b + 2) else (dF d) + 0) + t 0) = nI (dBeg t d b + t 0); rw [eB], rfl, rfl, by rw [eR]; rfl, by rw [eW]; rfl, by rw [eT]; rfl, by intro i; rw [eB]; simp [st2], by intro i; rw [eB]; simp [st2]⟩)
  · refine lv_iconst (v := 1) C.1 C.2.1 dX0_goesThrough_21 (by decide) ?_
    refine lv_goto (tgt := 26) C.1 C.2.1 dX0_goesThrough_22 (by decide) ?_
    refine lv_istore_n (lv' := [(3, .int 1), (2, .int (nI (t (6 + 6 * b)))), (0, .ref (ad 0)), (1, .int (nI b))]) C.1 C.2.1 dX0_goesThrough_26 rfl hl (Nat.le_of_ble_eq_true rfl) rfl (fun ls hl => ?_)
    refine lv_aload_n C.1 C.2.1 dX0_goesThrough_27 rfl (lv_at hl 2 rfl) ?_
    refine xg_X0_141_0 C hK I (x := nI (dF d)) hF dX0_goesThrough_28 ?_
    refine lv_iload_n C.1 C.2.1 dX0_goesThrough_31 rfl (lv_at hl 0 rfl) ?_
    refine f_if_eq C (by decide) dX0_goesThrough_32 (tgt := 47) (by decide) ?_
    refine lv_aload_n C.1 C.2.1 dX0_goesThrough_35 rfl (lv_at hl 2 rfl) ?_
    refine xg_X0_33_0 C hK I dX0_goesThrough_36 ?_
    refine xg_X0_79_2 C hK I dX0_goesThrough_39 ?_
    refine lv_iconst (v := 1) C.1 C.2.1 dX0_goesThrough_42 (by decide) ?_
    refine xl_3 C hK I (q := 1) ⟨by decide, rfl⟩ (by decide) (x := nI (t 1)) (hnw.1 1 (by omega)) dX0_goesThrough_43 ?_
    refine lv_goto (tgt := 48) C.1 C.2.1 dX0_goesThrough_44 (by decide) ?_
    refine n_add C (a := dF d) (b := t 1) rfl rfl dX0_goesThrough_48 ?_
    refine lv_aload_n C.1 C.2.1 dX0_goesThrough_49 rfl (lv_at hl 2 rfl) ?_
    refine xg_X0_33_0 C hK I dX0_goesThrough_50 ?_
    refine xg_X0_93_2 C hK I dX0_goesThrough_53 ?_
    refine lv_iload_n C.1 C.2.1 dX0_goesThrough_56 rfl (lv_at hl 3 rfl) ?_
    refine xa_5 C hK I (q := b) (ix_nI (by omega)) (by omega) dX0_goesThrough_57 ?_
    refine lv_iconst (v := 1) C.1 C.2.1 dX0_goesThrough_58 (by decide) ?_
    refine xl_b C hK I (b := b) (by omega) (q := 1) ⟨by decide, rfl⟩ (by decide) (x := nI (t (6 + 6 * b + 2))) (hnw.b (by omega) (k := 1) (by decide)) dX0_goesThrough_59 ?_
    refine x_maxN C (a := (dF d) + (t 1)) (b := t (6 + 6 * b + 2)) rfl rfl (by have z0 := hT 1; omega) (by have z0 := hT (6 + 6 * b + 2); omega) hl.1 (Nat.le_of_ble_eq_true rfl) (Nat.le_of_ble_eq_true rfl) mxL_X0 dX0_goesThrough_60 ?_
    refine lv_istore (lv' := [(4, .int (nI (if (dF d) + (t 1) < t (6 + 6 * b + 2) then t (6 + 6 * b + 2) else (dF d) + (t 1)))), (3, .int 1), (2, .int (nI (t (6 + 6 * b)))), (0, .ref (ad 0)), (1, .int (nI b))]) C.1 C.2.1 dX0_goesThrough_63 hl (Nat.le_of_ble_eq_true rfl) rfl (fun ls hl => ?_)
    refine lv_aload_n C.1 C.2.1 dX0_goesThrough_65 rfl (lv_at hl 3 rfl) ?_
    refine lv_dup C.1 C.2.1 dX0_goesThrough_66 rfl ?_
    refine xg_X0_138_0 C hK I (x := nI (dT d)) hTu dX0_goesThrough_67 ?_
    refine lv_iload_n C.1 C.2.1 dX0_goesThrough_70 rfl (lv_at hl 1 rfl) ?_
    refine f_if_eq C (by decide) dX0_goesThrough_71 (tgt := 78) (by decide) ?_
    refine lv_iconst (v := 1) C.1 C.2.1 dX0_goesThrough_74 (by decide) ?_
    refine lv_goto (tgt := 79) C.1 C.2.1 dX0_goesThrough_75 (by decide) ?_
    refine n_add C (a := dT d) (b := 1) rfl rfl dX0_goesThrough_79 ?_
    refine xp_X0_138_0 C hK I dX0_goesThrough_80 (fun H9 L9 I => ?_)
    refine lv_aload_n C.1 C.2.1 dX0_goesThrough_83 rfl (lv_at hl 3 rfl) ?_
    refine lv_dup C.1 C.2.1 dX0_goesThrough_84 rfl ?_
    refine xg_X0_135_0 C hK I (x := nI (dW d)) (show _ = _ from hW) dX0_goesThrough_85 ?_
    refine lv_iload_n C.1 C.2.1 dX0_goesThrough_88 rfl (lv_at hl 1 rfl) ?_
    refine f_if_eq C (by decide) dX0_goesThrough_89 (tgt := 101) (by decide) ?_
    refine lv_iload_n C.1 C.2.1 dX0_goesThrough_92 rfl (lv_at hl 2 rfl) ?_
    refine lv_iconst (v := 1) C.1 C.2.1 dX0_goesThrough_93 (by decide) ?_
    refine n_icmp_ne C (a := t (6 + 6 * b)) (b := 1) rfl rfl (by have z0 := hT (6 + 6 * b); omega) (by omega) dX0_goesThrough_94 (tgt := 101) (by decide) (fun c94 => ?_) (fun c94 => ?_)
    · refine lv_iconst (v := 0) C.1 C.2.1 dX0_goesThrough_101 (by decide) ?_
      refine lv_iload_n C.1 C.2.1 dX0_goesThrough_102 rfl (lv_at hl 2 rfl) ?_
      refine n_if_ne C (a := t (6 + 6 * b)) rfl (by have z0 := hT (6 + 6 * b); omega) dX0_goesThrough_103 (tgt := 110) (by decide) (fun c103 => ?_) (fun c103 => ?_)
      · refine lv_iconst (v := 0) C.1 C.2.1 dX0_goesThrough_110 (by decide) ?_
        refine e_iadd C (z := 0) (by decide) dX0_goesThrough_111 ?_
        refine n_add C (a := dW d) (b := 0) rfl rfl dX0_goesThrough_112 ?_
        refine xp_X0_135_0 C hK I dX0_goesThrough_113 (fun H9 L9 I => ?_)
        refine lv_aload_n C.1 C.2.1 dX0_goesThrough_116 rfl (lv_at hl 3 rfl) ?_
        refine xg_X0_119_0 C hK I dX0_goesThrough_117 ?_
        refine lv_iload_n C.1 C.2.1 dX0_goesThrough_120 rfl (lv_at hl 2 rfl) ?_
        refine lv_aload_n C.1 C.2.1 dX0_goesThrough_121 rfl (lv_at hl 3 rfl) ?_
        refine xg_X0_119_0 C hK I dX0_goesThrough_122 ?_
        refine xg_X0_129_12 C hK I (x := enL (dLa d)) (show _ = _ from hLa) dX0_goesThrough_125 ?_
        refine z_icmp_ne C dX0_goesThrough_128 (tgt := 143) (by decide) (fun c128 => ?_) (fun c128 => ?_)
        · have k128 : t (6 + 6 * b) ≠ dLa d := fun q => c128 ((enL_eq hsd hLa1).mpr q)
          refine lv_iconst (v := 1) C.1 C.2.1 dX0_goesThrough_143 (by decide) ?_
          refine xp_X0_132_12 C hK I dX0_goesThrough_144 (fun H9 L9 I => ?_)
          refine lv_aload_n C.1 C.2.1 dX0_goesThrough_147 rfl (lv_at hl 3 rfl) ?_
          refine xg_X0_119_0 C hK I dX0_goesThrough_148 ?_
          refine lv_iload_n C.1 C.2.1 dX0_goesThrough_151 rfl (lv_at hl 2 rfl) ?_
          refine xp_X0_129_12 C hK I dX0_goesThrough_152 (fun H9 L9 I => ?_)
          refine lv_aload_n C.1 C.2.1 dX0_goesThrough_155 rfl (lv_at hl 3 rfl) ?_
          refine xg_X0_119_0 C hK I dX0_goesThrough_156 ?_
          refine lv_iconst (v := 1) C.1 C.2.1 dX0_goesThrough_159 (by decide) ?_
          refine lv_iload_n C.1 C.2.1 dX0_goesThrough_160 rfl (lv_at hl 2 rfl) ?_
          refine n_sub C (a := 1) (b := t (6 + 6 * b)) rfl rfl (by have z0 := hT (6 + 6 * b); omega) dX0_goesThrough_161 ?_
          refine xp_X0_126_12 C hK I dX0_goesThrough_162 (fun H9 L9 I => ?_)
          refine lv_aload_n C.1 C.2.1 dX0_goesThrough_165 rfl (lv_at hl 3 rfl) ?_
          refine xg_X0_150_0 C hK I dX0_goesThrough_166 ?_
          refine lv_iload_n C.1 C.2.1 dX0_goesThrough_169 rfl (lv_at hl 4 rfl) ?_
          refine lv_iload C.1 C.2.1 dX0_goesThrough_170 (lv_at hl 0 rfl) ?_
          refine lv_aload_n C.1 C.2.1 dX0_goesThrough_172 rfl (lv_at hl 3 rfl) ?_
          refine xg_X0_33_0 C hK I dX0_goesThrough_173 ?_
          refine xg_X0_93_2 C hK I dX0_goesThrough_176 ?_
          refine lv_iload_n C.1 C.2.1 dX0_goesThrough_179 rfl (lv_at hl 4 rfl) ?_
          refine xa_5 C hK I (q := b) (ix_nI (by omega)) (by omega) dX0_goesThrough_180 ?_
          refine lv_iconst (v := 1) C.1 C.2.1 dX0_goesThrough_181 (by decide) ?_
          refine xl_b C hK I (b := b) (by omega) (q := 1) ⟨by decide, rfl⟩ (by decide) (x := nI (t (6 + 6 * b + 2))) (by rw [st2_cell _ _ _ (show (6 + b : Nat) ≠ 12 by omega), st2_cell _ _ _ (show (6 + b : Nat) ≠ 12 by omega), st2_cell _ _ _ (show (6 + b : Nat) ≠ 12 by omega), st2_cell _ _ _ (show (6 + b : Nat) ≠ 0 by omega), st2_cell _ _ _ (show (6 + b : Nat) ≠ 0 by omega)]; exact (hnw.b (by omega) (k := 1) (by decide))) dX0_goesThrough_182 ?_
          refine n_sub C (a := (if (dF d) + (t 1) < t (6 + 6 * b + 2) then t (6 + 6 * b + 2) else (dF d) + (t 1))) (b := t (6 + 6 * b + 2)) rfl rfl (by have z0 := hT 1; have z1 := hT (6 + 6 * b + 2); (first | omega | ((repeat' split) <;> omega))) dX0_goesThrough_183 ?_
          refine xs_16 C hK I (q := b) (ix_nI (by omega)) (by omega) dX0_goesThrough_184 (fun H9 L9 I => ?_)
          refine lv_aload_n C.1 C.2.1 dX0_goesThrough_185 rfl (lv_at hl 3 rfl) ?_
          refine lv_iload C.1 C.2.1 dX0_goesThrough_186 (lv_at hl 0 rfl) ?_
          refine lv_aload_n C.1 C.2.1 dX0_goesThrough_188 rfl (lv_at hl 3 rfl) ?_
          refine xg_X0_33_0 C hK I dX0_goesThrough_189 ?_
          refine xg_X0_79_2 C hK I dX0_goesThrough_192 ?_
          refine lv_iconst (v := 0) C.1 C.2.1 dX0_goesThrough_195 (by decide) ?_
          refine xl_3 C hK I (q := 0) ⟨by decide, rfl⟩ (by decide) (x := nI (t 0)) (show _ = _ from (hnw.1 0 (by omega))) dX0_goesThrough_196 ?_
          refine n_add C (a := (if (dF d) + (t 1) < t (6 + 6 * b + 2) then t (6 + 6 * b + 2) else (dF d) + (t 1))) (b := t 0) rfl rfl dX0_goesThrough_197 ?_
          refine xp_X0_141_0 C hK I dX0_goesThrough_198 (fun H9 L9 I => ?_)
          refine lv_aload_n C.1 C.2.1 dX0_goesThrough_201 rfl (lv_at hl 3 rfl) ?_
          refine xg_X0_153_0 C hK I dX0_goesThrough_202 ?_
          refine lv_iload_n C.1 C.2.1 dX0_goesThrough_205 rfl (lv_at hl 4 rfl) ?_
          refine lv_aload_n C.1 C.2.1 dX0_goesThrough_206 rfl (lv_at hl 3 rfl) ?_
          refine xg_X0_141_0 C hK I (x := nI ((if (dF d) + (t 1) < t (6 + 6 * b + 2) then t (6 + 6 * b + 2) else (dF d) + (t 1)) + (t 0))) rfl dX0_goesThrough_207 ?_
          refine xs_15 C hK I (q := b) (ix_nI (by omega)) (by omega) dX0_goesThrough_210 (fun H9 L9 I => ?_)
          exact g_vret C hr9 hk9 I dX0_goesThrough_211 (by have eB : dBeg t d b = (if (dF d) + (t 1) < t (6 + 6 * b + 2) then t (6 + 6 * b + 2) else (dF d) + (t 1)) := (by unfold dBeg; (repeat' split) <;> omega); have eW : dW (dLet t d b) = (dW d) + 0 := (by show dW d + (if t (6 + 6 * b) ≠ dR d ∧ t (6 + 6 * b) = 1 then 1 else 0) + (if t (6 + 6 * b) = 0 then 1 else 0) = _; (repeat' split) <;> omega); have eT : dT (dLet t d b) = (dT d) + 1 := (by show dT d + (if t (6 + 6 * b) ≠ dR d then 1 else 0) = _; (repeat' split) <;> omega); have eR : dRo (dLet t d b) = 1 := (by show (if t (6 + 6 * b) = dLa d then dRo d + 1 else 1) = _; (repeat' split) <;> omega); exact ⟨by repeat (first | exact offX.rf _ | refine offX.put0 ?_ (by decide) | refine offX.putA ?_ (by decide)), rfl, rfl, rfl, by show nI ((if (dF d) + (t 1) < t (6 + 6 * b + 2) then t (6 + 6 * b + 2) else (dF d) + (t 1)) + t 0) = nI (dBeg t d b + t 0); rw [eB], rfl, rfl, by rw [eR]; rfl, by rw [eW]; rfl, by rw [eT]; rfl, by intro i; rw [eB]; simp [st2], by intro i; rw [eB]; simp [st2]⟩)
        · have k128 : t (6 + 6 * b) = dLa d := (enL_eq hsd hLa1).mp c128
          refine lv_aload_n C.1 C.2.1 dX0_goesThrough_131 rfl (lv_at hl 3 rfl) ?_
          refine xg_X0_119_0 C hK I dX0_goesThrough_132 ?_
          refine xg_X0_132_12 C hK I (x := nI (dRo d)) (show _ = _ from hRo) dX0_goesThrough_135 ?_
          refine lv_iconst (v := 1) C.1 C.2.1 dX0_goesThrough_138 (by decide) ?_
          refine n_add C (a := dRo d) (b := 1) rfl rfl dX0_goesThrough_139 ?_
          refine lv_goto (tgt := 144) C.1 C.2.1 dX0_goesThrough_140 (by decide) ?_
          refine xp_X0_132_12 C hK I dX0_goesThrough_144 (fun H9 L9 I => ?_)
          refine lv_aload_n C.1 C.2.1 dX0_goesThrough_147 rfl (lv_at hl 3 rfl) ?_
          refine xg_X0_119_0 C hK I dX0_goesThrough_148 ?_
          refine lv_iload_n C.1 C.2.1 dX0_goesThrough_151 rfl (lv_at hl 2 rfl) ?_
          refine xp_X0_129_12 C hK I dX0_goesThrough_152 (fun H9 L9 I => ?_)
          refine lv_aload_n C.1 C.2.1 dX0_goesThrough_155 rfl (lv_at hl 3 rfl) ?_
          refine xg_X0_119_0 C hK I dX0_goesThrough_156 ?_
          refine lv_iconst (v := 1) C.1 C.2.1 dX0_goesThrough_159 (by decide) ?_
          refine lv_iload_n C.1 C.2.1 dX0_goesThrough_160 rfl (lv_at hl 2 rfl) ?_
          refine n_sub C (a := 1) (b := t (6 + 6 * b)) rfl rfl (by have z0 := hT (6 + 6 * b); omega) dX0_goesThrough_161 ?_
          refine xp_X0_126_12 C hK I dX0_goesThrough_162 (fun H9 L9 I => ?_)
          refine lv_aload_n C.1 C.2.1 dX0_goesThrough_165 rfl (lv_at hl 3 rfl) ?_
          refine xg_X0_150_0 C hK I dX0_goesThrough_166 ?_
          refine lv_iload_n C.1 C.2.1 dX0_goesThrough_169 rfl (lv_at hl 4 rfl) ?_
          refine lv_iload C.1 C.2.1 dX0_goesThrough_170 (lv_at hl 0 rfl) ?_
          refine lv_aload_n C.1 C.2.1 dX0_goesThrough_172 rfl (lv_at hl 3 rfl) ?_
          refine xg_X0_33_0 C hK I dX0_goesThrough_173 ?_
          refine xg_X0_93_2 C hK I dX0_goesThrough_176 ?_
          refine lv_iload_n C.1 C.2.1 dX0_goesThrough_179 rfl (lv_at hl 4 rfl) ?_
          refine xa_5 C hK I (q := b) (ix_nI (by omega)) (by omega) dX0_goesThrough_180 ?_
          refine lv_iconst (v := 1) C.1 C.2.1 dX0_goesThrough_181 (by decide) ?_
          refine xl_b C hK I (b := b) (by omega) (q := 1) ⟨by decide, rfl⟩ (by decide) (x := nI (t (6 + 6 * b + 2))) (by rw [st2_cell _ _ _ (show (6 + b : Nat) ≠ 12 by omega), st2_cell _ _ _ (show (6 + b : Nat) ≠ 12 by omega), st2_cell _ _ _ (show (6 + b : Nat) ≠ 12 by omega), st2_cell _ _ _ (show (6 + b : Nat) ≠ 0 by omega), st2_cell _ _ _ (show (6 + b : Nat) ≠ 0 by omega)]; exact (hnw.b (by omega) (k := 1) (by decide))) dX0_goesThrough_182 ?_
          refine n_sub C (a := (if (dF d) + (t 1) < t (6 + 6 * b + 2) then t (6 + 6 * b + 2) else (dF d) + (t 1))) (b := t (6 + 6 * b + 2)) rfl rfl (by have z0 := hT 1; have z1 := hT (6 + 6 * b + 2); (first | omega | ((repeat' split) <;> omega))) dX0_goesThrough_183 ?_
          refine xs_16 C hK I (q := b) (ix_nI (by omega)) (by omega) dX0_goesThrough_184 (fun H9 L9 I => ?_)
          refine lv_aload_n C.1 C.2.1 dX0_goesThrough_185 rfl (lv_at hl 3 rfl) ?_
          refine lv_iload C.1 C.2.1 dX0_goesThrough_186 (lv_at hl 0 rfl) ?_
          refine lv_aload_n C.1 C.2.1 dX0_goesThrough_188 rfl (lv_at hl 3 rfl) ?_
          refine xg_X0_33_0 C hK I dX0_goesThrough_189 ?_
          refine xg_X0_79_2 C hK I dX0_goesThrough_192 ?_
          refine lv_iconst (v := 0) C.1 C.2.1 dX0_goesThrough_195 (by decide) ?_
          refine xl_3 C hK I (q := 0) ⟨by decide, rfl⟩ (by decide) (x := nI (t 0)) (show _ = _ from (hnw.1 0 (by omega))) dX0_goesThrough_196 ?_
          refine n_add C (a := (if (dF d) + (t 1) < t (6 + 6 * b + 2) then t (6 + 6 * b + 2) else (dF d) + (t 1))) (b := t 0) rfl rfl dX0_goesThrough_197 ?_
          refine xp_X0_141_0 C hK I dX0_goesThrough_198 (fun H9 L9 I => ?_)
          refine lv_aload_n C.1 C.2.1 dX0_goesThrough_201 rfl (lv_at hl 3 rfl) ?_
          refine xg_X0_153_0 C hK I dX0_goesThrough_202 ?_
          refine lv_iload_n C.1 C.2.1 dX0_goesThrough_205 rfl (lv_at hl 4 rfl) ?_
          refine lv_aload_n C.1 C.2.1 dX0_goesThrough_206 rfl (lv_at hl 3 rfl) ?_
          refine xg_X0_141_0 C hK I (x := nI ((if (dF d) + (t 1) < t (6 + 6 * b + 2) then t (6 + 6 * b + 2) else (dF d) + (t 1)) + (t 0))) rfl dX0_goesThrough_207 ?_
          refine xs_15 C hK I (q := b) (ix_nI (by omega)) (by omega) dX0_goesThrough_210 (fun H9 L9 I => ?_)
          exact g_vret C hr9 hk9 I dX0_goesThrough_211 (by have eB : dBeg t d b = (if (dF d) + (t 1) < t (6 + 6 * b + 2) then t (6 + 6 * b + 2) else (dF d) + (t 1)) := (by unfold dBeg; (repeat' split) <;> omega); have eW : dW (dLet t d b) = (dW d) + 0 := (by show dW d + (if t (6 + 6 * b) ≠ dR d ∧ t (6 + 6 * b) = 1 then 1 else 0) + (if t (6 + 6 * b) = 0 then 1 else 0) = _; (repeat' split) <;> omega); have eT : dT (dLet t d b) = (dT d) + 1 := (by show dT d + (if t (6 + 6 * b) ≠ dR d then 1 else 0) = _; (repeat' split) <;> omega); have eR : dRo (dLet t d b) = (dRo d) + 1 := (by show (if t (6 + 6 * b) = dLa d then dRo d + 1 else 1) = _; (repeat' split) <;> omega); exact ⟨by repeat (first | exact offX.rf _ | refine offX.put0 ?_ (by decide) | refine offX.putA ?_ (by decide)), rfl, rfl, rfl, by show nI ((if (dF d) + (t 1) < t (6 + 6 * b + 2) then t (6 + 6 * b + 2) else (dF d) + (t 1)) + t 0) = nI (dBeg t d b + t 0); rw [eB], rfl, rfl, by rw [eR]; rfl, by rw [eW]; rfl, by rw [eT]; rfl, by intro i; rw [eB]; simp [st2], by intro i; rw [eB]; simp [st2]⟩)
      · refine lv_iconst (v := 1) C.1 C.2.1 dX0_goesThrough_106 (by decide) ?_
        refine lv_goto (tgt := 111) C.1 C.2.1 dX0_goesThrough_107 (by decide) ?_
        refine e_iadd C (z := 1) (by decide) dX0_goesThrough_111 ?_
        refine n_add C (a := dW d) (b := 1) rfl rfl dX0_goesThrough_112 ?_
        refine xp_X0_135_0 C hK I dX0_goesThrough_113 (fun H9 L9 I => ?_)
        refine lv_aload_n C.1 C.2.1 dX0_goesThrough_116 rfl (lv_at hl 3 rfl) ?_
        refine xg_X0_119_0 C hK I dX0_goesThrough_117 ?_
        refine lv_iload_n C.1 C.2.1 dX0_goesThrough_120 rfl (lv_at hl 2 rfl) ?_
        refine lv_aload_n C.1 C.2.1 dX0_goesThrough_121 rfl (lv_at hl 3 rfl) ?_
        refine xg_X0_119_0 C hK I dX0_goesThrough_122 ?_
        refine xg_X0_129_12 C hK I (x := enL (dLa d)) (show _ = _ from hLa) dX0_goesThrough_125 ?_
        refine z_icmp_ne C dX0_goesThrough_128 (tgt := 143) (by decide) (fun c128 => ?_) (fun c128 => ?_)
        · have k128 : t (6 + 6 * b) ≠ dLa d := fun q => c128 ((enL_eq hsd hLa1).mpr q)
          refine lv_iconst (v := 1) C.1 C.2.1 dX0_goesThrough_143 (by decide) ?_
          refine xp_X0_132_12 C hK I dX0_goesThrough_144 (fun H9 L9 I => ?_)
          refine lv_aload_n C.1 C.2.1 dX0_goesThrough_147 rfl (lv_at hl 3 rfl) ?_
          refine xg_X0_119_0 C hK I dX0_goesThrough_148 ?_
          refine lv_iload_n C.1 C.2.1 dX0_goesThrough_151 rfl (lv_at hl 2 rfl) ?_
          refine xp_X0_129_12 C hK I dX0_goesThrough_152 (fun H9 L9 I => ?_)
          refine lv_aload_n C.1 C.2.1 dX0_goesThrough_155 rfl (lv_at hl 3 rfl) ?_
          refine xg_X0_119_0 C hK I dX0_goesThrough_156 ?_
          refine lv_iconst (v := 1) C.1 C.2.1 dX0_goesThrough_159 (by decide) ?_
          refine lv_iload_n C.1 C.2.1 dX0_goesThrough_160 rfl (lv_at hl 2 rfl) ?_
          refine n_sub C (a := 1) (b := t (6 + 6 * b)) rfl rfl (by have z0 := hT (6 + 6 * b); omega) dX0_goesThrough_161 ?_
          refine xp_X0_126_12 C hK I dX0_goesThrough_162 (fun H9 L9 I => ?_)
          refine lv_aload_n C.1 C.2.1 dX0_goesThrough_165 rfl (lv_at hl 3 rfl) ?_
          refine xg_X0_150_0 C hK I dX0_goesThrough_166 ?_
          refine lv_iload_n C.1 C.2.1 dX0_goesThrough_169 rfl (lv_at hl 4 rfl) ?_
          refine lv_iload C.1 C.2.1 dX0_goesThrough_170 (lv_at hl 0 rfl) ?_
          refine lv_aload_n C.1 C.2.1 dX0_goesThrough_172 rfl (lv_at hl 3 rfl) ?_
          refine xg_X0_33_0 C hK I dX0_goesThrough_173 ?_
          refine xg_X0_93_2 C hK I dX0_goesThrough_176 ?_
          refine lv_iload_n C.1 C.2.1 dX0_goesThrough_179 rfl (lv_at hl 4 rfl) ?_
          refine xa_5 C hK I (q := b) (ix_nI (by omega)) (by omega) dX0_goesThrough_180 ?_
          refine lv_iconst (v := 1) C.1 C.2.1 dX0_goesThrough_181 (by decide) ?_
          refine xl_b C hK I (b := b) (by omega) (q := 1) ⟨by decide, rfl⟩ (by decide) (x := nI (t (6 + 6 * b + 2))) (by rw [st2_cell _ _ _ (show (6 + b : Nat) ≠ 12 by omega), st2_cell _ _ _ (show (6 + b : Nat) ≠ 12 by omega), st2_cell _ _ _ (show (6 + b : Nat) ≠ 12 by omega), st2_cell _ _ _ (show (6 + b : Nat) ≠ 0 by omega), st2_cell _ _ _ (show (6 + b : Nat) ≠ 0 by omega)]; exact (hnw.b (by omega) (k := 1) (by decide))) dX0_goesThrough_182 ?_
          refine n_sub C (a := (if (dF d) + (t 1) < t (6 + 6 * b + 2) then t (6 + 6 * b + 2) else (dF d) + (t 1))) (b := t (6 + 6 * b + 2)) rfl rfl (by have z0 := hT 1; have z1 := hT (6 + 6 * b + 2); (first | omega | ((repeat' split) <;> omega))) dX0_goesThrough_183 ?_
          refine xs_16 C hK I (q := b) (ix_nI (by omega)) (by omega) dX0_goesThrough_184 (fun H9 L9 I => ?_)
          refine lv_aload_n C.1 C.2.1 dX0_goesThrough_185 rfl (lv_at hl 3 rfl) ?_
          refine lv_iload C.1 C.2.1 dX0_goesThrough_186 (lv_at hl 0 rfl) ?_
          refine lv_aload_n C.1 C.2.1 dX0_goesThrough_188 rfl (lv_at hl 3 rfl) ?_
          refine xg_X0_33_0 C hK I dX0_goesThrough_189 ?_
          refine xg_X0_79_2 C hK I dX0_goesThrough_192 ?_
          refine lv_iconst (v := 0) C.1 C.2.1 dX0_goesThrough_195 (by decide) ?_
          refine xl_3 C hK I (q := 0) ⟨by decide, rfl⟩ (by decide) (x := nI (t 0)) (show _ = _ from (hnw.1 0 (by omega))) dX0_goesThrough_196 ?_
          refine n_add C (a := (if (dF d) + (t 1) < t (6 + 6 * b + 2) then t (6 + 6 * b + 2) else (dF d) + (t 1))) (b := t 0) rfl rfl dX0_goesThrough_197 ?_
          refine xp_X0_141_0 C hK I dX0_goesThrough_198 (fun H9 L9 I => ?_)
          refine lv_aload_n C.1 C.2.1 dX0_goesThrough_201 rfl (lv_at hl 3 rfl) ?_
          refine xg_X0_153_0 C hK I dX0_goesThrough_202 ?_
          refine lv_iload_n C.1 C.2.1 dX0_goesThrough_205 rfl (lv_at hl 4 rfl) ?_
          refine lv_aload_n C.1 C.2.1 dX0_goesThrough_206 rfl (lv_at hl 3 rfl) ?_
          refine xg_X0_141_0 C hK I (x := nI ((if (dF d) + (t 1) < t (6 + 6 * b + 2) then t (6 + 6 * b + 2) else (dF d) + (t 1)) + (t 0))) rfl dX0_goesThrough_207 ?_
          refine xs_15 C hK I (q := b) (ix_nI (by omega)) (by omega) dX0_goesThrough_210 (fun H9 L9 I => ?_)
          exact g_vret C hr9 hk9 I dX0_goesThrough_211 (by have eB : dBeg t d b = (if (dF d) + (t 1) < t (6 + 6 * b + 2) then t (6 + 6 * b + 2) else (dF d) + (t 1)) := (by unfold dBeg; (repeat' split) <;> omega); have eW : dW (dLet t d b) = (dW d) + 1 := (by show dW d + (if t (6 + 6 * b) ≠ dR d ∧ t (6 + 6 * b) = 1 then 1 else 0) + (if t (6 + 6 * b) = 0 then 1 else 0) = _; (repeat' split) <;> omega); have eT : dT (dLet t d b) = (dT d) + 1 := (by show dT d + (if t (6 + 6 * b) ≠ dR d then 1 else 0) = _; (repeat' split) <;> omega); have eR : dRo (dLet t d b) = 1 := (by show (if t (6 + 6 * b) = dLa d then dRo d + 1 else 1) = _; (repeat' split) <;> omega); exact ⟨by repeat (first | exact offX.rf _ | refine offX.put0 ?_ (by decide) | refine offX.putA ?_ (by decide)), rfl, rfl, rfl, by show nI ((if (dF d) + (t 1) < t (6 + 6 * b + 2) then t (6 + 6 * b + 2) else (dF d) + (t 1)) + t 0) = nI (dBeg t d b + t 0); rw [eB], rfl, rfl, by rw [eR]; rfl, by rw [eW]; rfl, by rw [eT]; rfl, by intro i; rw [eB]; simp [st2], by intro i; rw [eB]; simp [st2]⟩)
        · have k128 : t (6 + 6 * b) = dLa d := (enL_eq hsd hLa1).mp c128
          refine lv_aload_n C.1 C.2.1 dX0_goesThrough_131 rfl (lv_at hl 3 rfl) ?_
          refine xg_X0_119_0 C hK I dX0_goesThrough_132 ?_
          refine xg_X0_132_12 C hK I (x := nI (dRo d)) (show _ = _ from hRo) dX0_goesThrough_135 ?_
          refine lv_iconst (v := 1) C.1 C.2.1 dX0_goesThrough_138 (by decide) ?_
          refine n_add C (a := dRo d) (b := 1) rfl rfl dX0_goesThrough_139 ?_
          refine lv_goto (tgt := 144) C.1 C.2.1 dX0_goesThrough_140 (by decide) ?_
          refine xp_X0_132_12 C hK I dX0_goesThrough_144 (fun H9 L9 I => ?_)
          refine lv_aload_n C.1 C.2.1 dX0_goesThrough_147 rfl (lv_at hl 3 rfl) ?_
          refine xg_X0_119_0 C hK I dX0_goesThrough_148 ?_
          refine lv_iload_n C.1 C.2.1 dX0_goesThrough_151 rfl (lv_at hl 2 rfl) ?_
          refine xp_X0_129_12 C hK I dX0_goesThrough_152 (fun H9 L9 I => ?_)
          refine lv_aload_n C.1 C.2.1 dX0_goesThrough_155 rfl (lv_at hl 3 rfl) ?_
          refine xg_X0_119_0 C hK I dX0_goesThrough_156 ?_
          refine lv_iconst (v := 1) C.1 C.2.1 dX0_goesThrough_159 (by decide) ?_
          refine lv_iload_n C.1 C.2.1 dX0_goesThrough_160 rfl (lv_at hl 2 rfl) ?_
          refine n_sub C (a := 1) (b := t (6 + 6 * b)) rfl rfl (by have z0 := hT (6 + 6 * b); omega) dX0_goesThrough_161 ?_
          refine xp_X0_126_12 C hK I dX0_goesThrough_162 (fun H9 L9 I => ?_)
          refine lv_aload_n C.1 C.2.1 dX0_goesThrough_165 rfl (lv_at hl 3 rfl) ?_
          refine xg_X0_150_0 C hK I dX0_goesThrough_166 ?_
          refine lv_iload_n C.1 C.2.1 dX0_goesThrough_169 rfl (lv_at hl 4 rfl) ?_
          refine lv_iload C.1 C.2.1 dX0_goesThrough_170 (lv_at hl 0 rfl) ?_
          refine lv_aload_n C.1 C.2.1 dX0_goesThrough_172 rfl (lv_at hl 3 rfl) ?_
          refine xg_X0_33_0 C hK I dX0_goesThrough_173 ?_
          refine xg_X0_93_2 C hK I dX0_goesThrough_176 ?_
          refine lv_iload_n C.1 C.2.1 dX0_goesThrough_179 rfl (lv_at hl 4 rfl) ?_
          refine xa_5 C hK I (q := b) (ix_nI (by omega)) (by omega) dX0_goesThrough_180 ?_
          refine lv_iconst (v := 1) C.1 C.2.1 dX0_goesThrough_181 (by decide) ?_
          refine xl_b C hK I (b := b) (by omega) (q := 1) ⟨by decide, rfl⟩ (by decide) (x := nI (t (6 + 6 * b + 2))) (by rw [st2_cell _ _ _ (show (6 + b : Nat) ≠ 12 by omega), st2_cell _ _ _ (show (6 + b : Nat) ≠ 12 by omega), st2_cell _ _ _ (show (6 + b : Nat) ≠ 12 by omega), st2_cell _ _ _ (show (6 + b : Nat) ≠ 0 by omega), st2_cell _ _ _ (show (6 + b : Nat) ≠ 0 by omega)]; exact (hnw.b (by omega) (k := 1) (by decide))) dX0_goesThrough_182 ?_
          refine n_sub C (a := (if (dF d) + (t 1) < t (6 + 6 * b + 2) then t (6 + 6 * b + 2) else (dF d) + (t 1))) (b := t (6 + 6 * b + 2)) rfl rfl (by have z0 := hT 1; have z1 := hT (6 + 6 * b + 2); (first | omega | ((repeat' split) <;> omega))) dX0_goesThrough_183 ?_
          refine xs_16 C hK I (q := b) (ix_nI (by omega)) (by omega) dX0_goesThrough_184 (fun H9 L9 I => ?_)
          refine lv_aload_n C.1 C.2.1 dX0_goesThrough_185 rfl (lv_at hl 3 rfl) ?_
          refine lv_iload C.1 C.2.1 dX0_goesThrough_186 (lv_at hl 0 rfl) ?_
          refine lv_aload_n C.1 C.2.1 dX0_goesThrough_188 rfl (lv_at hl 3 rfl) ?_
          refine xg_X0_33_0 C hK I dX0_goesThrough_189 ?_
          refine xg_X0_79_2 C hK I dX0_goesThrough_192 ?_
          refine lv_iconst (v := 0) C.1 C.2.1 dX0_goesThrough_195 (by decide) ?_
          refine xl_3 C hK I (q := 0) ⟨by decide, rfl⟩ (by decide) (x := nI (t 0)) (show _ = _ from (hnw.1 0 (by omega))) dX0_goesThrough_196 ?_
          refine n_add C (a := (if (dF d) + (t 1) < t (6 + 6 * b + 2) then t (6 + 6 * b + 2) else (dF d) + (t 1))) (b := t 0) rfl rfl dX0_goesThrough_197 ?_
          refine xp_X0_141_0 C hK I dX0_goesThrough_198 (fun H9 L9 I => ?_)
          refine lv_aload_n C.1 C.2.1 dX0_goesThrough_201 rfl (lv_at hl 3 rfl) ?_
          refine xg_X0_153_0 C hK I dX0_goesThrough_202 ?_
          refine lv_iload_n C.1 C.2.1 dX0_goesThrough_205 rfl (lv_at hl 4 rfl) ?_
          refine lv_aload_n C.1 C.2.1 dX0_goesThrough_206 rfl (lv_at hl 3 rfl) ?_
          refine xg_X0_141_0 C hK I (x := nI ((if (dF d) + (t 1) < t (6 + 6 * b + 2) then t (6 + 6 * b + 2) else (dF d) + (t 1)) + (t 0))) rfl dX0_goesThrough_207 ?_
          refine xs_15 C hK I (q := b) (ix_nI (by omega)) (by omega) dX0_goesThrough_210 (fun H9 L9 I => ?_)
          exact g_vret C hr9 hk9 I dX0_goesThrough_211 (by have eB : dBeg t d b = (if (dF d) + (t 1) < t (6 + 6 * b + 2) then t (6 + 6 * b + 2) else (dF d) + (t 1)) := (by unfold dBeg; (repeat' split) <;> omega); have eW : dW (dLet t d b) = (dW d) + 1 := (by show dW d + (if t (6 + 6 * b) ≠ dR d ∧ t (6 + 6 * b) = 1 then 1 else 0) + (if t (6 + 6 * b) = 0 then 1 else 0) = _; (repeat' split) <;> omega); have eT : dT (dLet t d b) = (dT d) + 1 := (by show dT d + (if t (6 + 6 * b) ≠ dR d then 1 else 0) = _; (repeat' split) <;> omega); have eR : dRo (dLet t d b) = (dRo d) + 1 := (by show (if t (6 + 6 * b) = dLa d then dRo d + 1 else 1) = _; (repeat' split) <;> omega); exact ⟨by repeat (first | exact offX.rf _ | refine offX.put0 ?_ (by decide) | refine offX.putA ?_ (by decide)), rfl, rfl, rfl, by show nI ((if (dF d) + (t 1) < t (6 + 6 * b + 2) then t (6 + 6 * b + 2) else (dF d) + (t 1)) + t 0) = nI (dBeg t d b + t 0); rw [eB], rfl, rfl, by rw [eR]; rfl, by rw [eW]; rfl, by rw [eT]; rfl, by intro i; rw [eB]; simp [st2], by intro i; rw [eB]; simp [st2]⟩)
    · refine lv_iconst (v := 1) C.1 C.2.1 dX0_goesThrough_97 (by decide) ?_
      refine lv_goto (tgt := 102) C.1 C.2.1 dX0_goesThrough_98 (by decide) ?_
      refine lv_iload_n C.1 C.2.1 dX0_goesThrough_102 rfl (lv_at hl 2 rfl) ?_
      refine n_if_ne C (a := t (6 + 6 * b)) rfl (by have z0 := hT (6 + 6 * b); omega) dX0_goesThrough_103 (tgt := 110) (by decide) (fun c103 => ?_) (fun c103 => ?_)
      · refine lv_iconst (v := 0) C.1 C.2.1 dX0_goesThrough_110 (by decide) ?_
        refine e_iadd C (z := 1) (by decide) dX0_goesThrough_111 ?_
        refine n_add C (a := dW d) (b := 1) rfl rfl dX0_goesThrough_112 ?_
        refine xp_X0_135_0 C hK I dX0_goesThrough_113 (fun H9 L9 I => ?_)
        refine lv_aload_n C.1 C.2.1 dX0_goesThrough_116 rfl (lv_at hl 3 rfl) ?_
        refine xg_X0_119_0 C hK I dX0_goesThrough_117 ?_
        refine lv_iload_n C.1 C.2.1 dX0_goesThrough_120 rfl (lv_at hl 2 rfl) ?_
        refine lv_aload_n C.1 C.2.1 dX0_goesThrough_121 rfl (lv_at hl 3 rfl) ?_
        refine xg_X0_119_0 C hK I dX0_goesThrough_122 ?_
        refine xg_X0_129_12 C hK I (x := enL (dLa d)) (show _ = _ from hLa) dX0_goesThrough_125 ?_
        refine z_icmp_ne C dX0_goesThrough_128 (tgt := 143) (by decide) (fun c128 => ?_) (fun c128 => ?_)
        · have k128 : t (6 + 6 * b) ≠ dLa d := fun q => c128 ((enL_eq hsd hLa1).mpr q)
          refine lv_iconst (v := 1) C.1 C.2.1 dX0_goesThrough_143 (by decide) ?_
          refine xp_X0_132_12 C hK I dX0_goesThrough_144 (fun H9 L9 I => ?_)
          refine lv_aload_n C.1 C.2.1 dX0_goesThrough_147 rfl (lv_at hl 3 rfl) ?_
          refine xg_X0_119_0 C hK I dX0_goesThrough_148 ?_
          refine lv_iload_n C.1 C.2.1 dX0_goesThrough_151 rfl (lv_at hl 2 rfl) ?_
          refine xp_X0_129_12 C hK I dX0_goesThrough_152 (fun H9 L9 I => ?_)
          refine lv_aload_n C.1 C.2.1 dX0_goesThrough_155 rfl (lv_at hl 3 rfl) ?_
          refine xg_X0_119_0 C hK I dX0_goesThrough_156 ?_
          refine lv_iconst (v := 1) C.1 C.2.1 dX0_goesThrough_159 (by decide) ?_
          refine lv_iload_n C.1 C.2.1 dX0_goesThrough_160 rfl (lv_at hl 2 rfl) ?_
          refine n_sub C (a := 1) (b := t (6 + 6 * b)) rfl rfl (by have z0 := hT (6 + 6 * b); omega) dX0_goesThrough_161 ?_
          refine xp_X0_126_12 C hK I dX0_goesThrough_162 (fun H9 L9 I => ?_)
          refine lv_aload_n C.1 C.2.1 dX0_goesThrough_165 rfl (lv_at hl 3 rfl) ?_
          refine xg_X0_150_0 C hK I dX0_goesThrough_166 ?_
          refine lv_iload_n C.1 C.2.1 dX0_goesThrough_169 rfl (lv_at hl 4 rfl) ?_
          refine lv_iload C.1 C.2.1 dX0_goesThrough_170 (lv_at hl 0 rfl) ?_
          refine lv_aload_n C.1 C.2.1 dX0_goesThrough_172 rfl (lv_at hl 3 rfl) ?_
          refine xg_X0_33_0 C hK I dX0_goesThrough_173 ?_
          refine xg_X0_93_2 C hK I dX0_goesThrough_176 ?_
          refine lv_iload_n C.1 C.2.1 dX0_goesThrough_179 rfl (lv_at hl 4 rfl) ?_
          refine xa_5 C hK I (q := b) (ix_nI (by omega)) (by omega) dX0_goesThrough_180 ?_
          refine lv_iconst (v := 1) C.1 C.2.1 dX0_goesThrough_181 (by decide) ?_
          refine xl_b C hK I (b := b) (by omega) (q := 1) ⟨by decide, rfl⟩ (by decide) (x := nI (t (6 + 6 * b + 2))) (by rw [st2_cell _ _ _ (show (6 + b : Nat) ≠ 12 by omega), st2_cell _ _ _ (show (6 + b : Nat) ≠ 12 by omega), st2_cell _ _ _ (show (6 + b : Nat) ≠ 12 by omega), st2_cell _ _ _ (show (6 + b : Nat) ≠ 0 by omega), st2_cell _ _ _ (show (6 + b : Nat) ≠ 0 by omega)]; exact (hnw.b (by omega) (k := 1) (by decide))) dX0_goesThrough_182 ?_
          refine n_sub C (a := (if (dF d) + (t 1) < t (6 + 6 * b + 2) then t (6 + 6 * b + 2) else (dF d) + (t 1))) (b := t (6 + 6 * b + 2)) rfl rfl (by have z0 := hT 1; have z1 := hT (6 + 6 * b + 2); (first | omega | ((repeat' split) <;> omega))) dX0_goesThrough_183 ?_
          refine xs_16 C hK I (q := b) (ix_nI (by omega)) (by omega) dX0_goesThrough_184 (fun H9 L9 I => ?_)
          refine lv_aload_n C.1 C.2.1 dX0_goesThrough_185 rfl (lv_at hl 3 rfl) ?_
          refine lv_iload C.1 C.2.1 dX0_goesThrough_186 (lv_at hl 0 rfl) ?_
          refine lv_aload_n C.1 C.2.1 dX0_goesThrough_188 rfl (lv_at hl 3 rfl) ?_
          refine xg_X0_33_0 C hK I dX0_goesThrough_189 ?_
          refine xg_X0_79_2 C hK I dX0_goesThrough_192 ?_
          refine lv_iconst (v := 0) C.1 C.2.1 dX0_goesThrough_195 (by decide) ?_
          refine xl_3 C hK I (q := 0) ⟨by decide, rfl⟩ (by decide) (x := nI (t 0)) (show _ = _ from (hnw.1 0 (by omega))) dX0_goesThrough_196 ?_
          refine n_add C (a := (if (dF d) + (t 1) < t (6 + 6 * b + 2) then t (6 + 6 * b + 2) else (dF d) + (t 1))) (b := t 0) rfl rfl dX0_goesThrough_197 ?_
          refine xp_X0_141_0 C hK I dX0_goesThrough_198 (fun H9 L9 I => ?_)
          refine lv_aload_n C.1 C.2.1 dX0_goesThrough_201 rfl (lv_at hl 3 rfl) ?_
          refine xg_X0_153_0 C hK I dX0_goesThrough_202 ?_
          refine lv_iload_n C.1 C.2.1 dX0_goesThrough_205 rfl (lv_at hl 4 rfl) ?_
          refine lv_aload_n C.1 C.2.1 dX0_goesThrough_206 rfl (lv_at hl 3 rfl) ?_
          refine xg_X0_141_0 C hK I (x := nI ((if (dF d) + (t 1) < t (6 + 6 * b + 2) then t (6 + 6 * b + 2) else (dF d) + (t 1)) + (t 0))) rfl dX0_goesThrough_207 ?_
          refine xs_15 C hK I (q := b) (ix_nI (by omega)) (by omega) dX0_goesThrough_210 (fun H9 L9 I => ?_)
          exact g_vret C hr9 hk9 I dX0_goesThrough_211 (by have eB : dBeg t d b = (if (dF d) + (t 1) < t (6 + 6 * b + 2) then t (6 + 6 * b + 2) else (dF d) + (t 1)) := (by unfold dBeg; (repeat' split) <;> omega); have eW : dW (dLet t d b) = (dW d) + 1 := (by show dW d + (if t (6 + 6 * b) ≠ dR d ∧ t (6 + 6 * b) = 1 then 1 else 0) + (if t (6 + 6 * b) = 0 then 1 else 0) = _; (repeat' split) <;> omega); have eT : dT (dLet t d b) = (dT d) + 1 := (by show dT d + (if t (6 + 6 * b) ≠ dR d then 1 else 0) = _; (repeat' split) <;> omega); have eR : dRo (dLet t d b) = 1 := (by show (if t (6 + 6 * b) = dLa d then dRo d + 1 else 1) = _; (repeat' split) <;> omega); exact ⟨by repeat (first | exact offX.rf _ | refine offX.put0 ?_ (by decide) | refine offX.putA ?_ (by decide)), rfl, rfl, rfl, by show nI ((if (dF d) + (t 1) < t (6 + 6 * b + 2) then t (6 + 6 * b + 2) else (dF d) + (t 1)) + t 0) = nI (dBeg t d b + t 0); rw [eB], rfl, rfl, by rw [eR]; rfl, by rw [eW]; rfl, by rw [eT]; rfl, by intro i; rw [eB]; simp [st2], by intro i; rw [eB]; simp [st2]⟩)
        · have k128 : t (6 + 6 * b) = dLa d := (enL_eq hsd hLa1).mp c128
          refine lv_aload_n C.1 C.2.1 dX0_goesThrough_131 rfl (lv_at hl 3 rfl) ?_
          refine xg_X0_119_0 C hK I dX0_goesThrough_132 ?_
          refine xg_X0_132_12 C hK I (x := nI (dRo d)) (show _ = _ from hRo) dX0_goesThrough_135 ?_
          refine lv_iconst (v := 1) C.1 C.2.1 dX0_goesThrough_138 (by decide) ?_
          refine n_add C (a := dRo d) (b := 1) rfl rfl dX0_goesThrough_139 ?_
          refine lv_goto (tgt := 144) C.1 C.2.1 dX0_goesThrough_140 (by decide) ?_
          refine xp_X0_132_12 C hK I dX0_goesThrough_144 (fun H9 L9 I => ?_)
          refine lv_aload_n C.1 C.2.1 dX0_goesThrough_147 rfl (lv_at hl 3 rfl) ?_
          refine xg_X0_119_0 C hK I dX0_goesThrough_148 ?_
          refine lv_iload_n C.1 C.2.1 dX0_goesThrough_151 rfl (lv_at hl 2 rfl) ?_
          refine xp_X0_129_12 C hK I dX0_goesThrough_152 (fun H9 L9 I => ?_)
          refine lv_aload_n C.1 C.2.1 dX0_goesThrough_155 rfl (lv_at hl 3 rfl) ?_
          refine xg_X0_119_0 C hK I dX0_goesThrough_156 ?_
          refine lv_iconst (v := 1) C.1 C.2.1 dX0_goesThrough_159 (by decide) ?_
          refine lv_iload_n C.1 C.2.1 dX0_goesThrough_160 rfl (lv_at hl 2 rfl) ?_
          refine n_sub C (a := 1) (b := t (6 + 6 * b)) rfl rfl (by have z0 := hT (6 + 6 * b); omega) dX0_goesThrough_161 ?_
          refine xp_X0_126_12 C hK I dX0_goesThrough_162 (fun H9 L9 I => ?_)
          refine lv_aload_n C.1 C.2.1 dX0_goesThrough_165 rfl (lv_at hl 3 rfl) ?_
          refine xg_X0_150_0 C hK I dX0_goesThrough_166 ?_
          refine lv_iload_n C.1 C.2.1 dX0_goesThrough_169 rfl (lv_at hl 4 rfl) ?_
          refine lv_iload C.1 C.2.1 dX0_goesThrough_170 (lv_at hl 0 rfl) ?_
          refine lv_aload_n C.1 C.2.1 dX0_goesThrough_172 rfl (lv_at hl 3 rfl) ?_
          refine xg_X0_33_0 C hK I dX0_goesThrough_173 ?_
          refine xg_X0_93_2 C hK I dX0_goesThrough_176 ?_
          refine lv_iload_n C.1 C.2.1 dX0_goesThrough_179 rfl (lv_at hl 4 rfl) ?_
          refine xa_5 C hK I (q := b) (ix_nI (by omega)) (by omega) dX0_goesThrough_180 ?_
          refine lv_iconst (v := 1) C.1 C.2.1 dX0_goesThrough_181 (by decide) ?_
          refine xl_b C hK I (b := b) (by omega) (q := 1) ⟨by decide, rfl⟩ (by decide) (x := nI (t (6 + 6 * b + 2))) (by rw [st2_cell _ _ _ (show (6 + b : Nat) ≠ 12 by omega), st2_cell _ _ _ (show (6 + b : Nat) ≠ 12 by omega), st2_cell _ _ _ (show (6 + b : Nat) ≠ 12 by omega), st2_cell _ _ _ (show (6 + b : Nat) ≠ 0 by omega), st2_cell _ _ _ (show (6 + b : Nat) ≠ 0 by omega)]; exact (hnw.b (by omega) (k := 1) (by decide))) dX0_goesThrough_182 ?_
          refine n_sub C (a := (if (dF d) + (t 1) < t (6 + 6 * b + 2) then t (6 + 6 * b + 2) else (dF d) + (t 1))) (b := t (6 + 6 * b + 2)) rfl rfl (by have z0 := hT 1; have z1 := hT (6 + 6 * b + 2); (first | omega | ((repeat' split) <;> omega))) dX0_goesThrough_183 ?_
          refine xs_16 C hK I (q := b) (ix_nI (by omega)) (by omega) dX0_goesThrough_184 (fun H9 L9 I => ?_)
          refine lv_aload_n C.1 C.2.1 dX0_goesThrough_185 rfl (lv_at hl 3 rfl) ?_
          refine lv_iload C.1 C.2.1 dX0_goesThrough_186 (lv_at hl 0 rfl) ?_
          refine lv_aload_n C.1 C.2.1 dX0_goesThrough_188 rfl (lv_at hl 3 rfl) ?_
          refine xg_X0_33_0 C hK I dX0_goesThrough_189 ?_
          refine xg_X0_79_2 C hK I dX0_goesThrough_192 ?_
          refine lv_iconst (v := 0) C.1 C.2.1 dX0_goesThrough_195 (by decide) ?_
          refine xl_3 C hK I (q := 0) ⟨by decide, rfl⟩ (by decide) (x := nI (t 0)) (show _ = _ from (hnw.1 0 (by omega))) dX0_goesThrough_196 ?_
          refine n_add C (a := (if (dF d) + (t 1) < t (6 + 6 * b + 2) then t (6 + 6 * b + 2) else (dF d) + (t 1))) (b := t 0) rfl rfl dX0_goesThrough_197 ?_
          refine xp_X0_141_0 C hK I dX0_goesThrough_198 (fun H9 L9 I => ?_)
          refine lv_aload_n C.1 C.2.1 dX0_goesThrough_201 rfl (lv_at hl 3 rfl) ?_
          refine xg_X0_153_0 C hK I dX0_goesThrough_202 ?_
          refine lv_iload_n C.1 C.2.1 dX0_goesThrough_205 rfl (lv_at hl 4 rfl) ?_
          refine lv_aload_n C.1 C.2.1 dX0_goesThrough_206 rfl (lv_at hl 3 rfl) ?_
          refine xg_X0_141_0 C hK I (x := nI ((if (dF d) + (t 1) < t (6 + 6 * b + 2) then t (6 + 6 * b + 2) else (dF d) + (t 1)) + (t 0))) rfl dX0_goesThrough_207 ?_
          refine xs_15 C hK I (q := b) (ix_nI (by omega)) (by omega) dX0_goesThrough_210 (fun H9 L9 I => ?_)
          exact g_vret C hr9 hk9 I dX0_goesThrough_211 (by have eB : dBeg t d b = (if (dF d) + (t 1) < t (6 + 6 * b + 2) then t (6 + 6 * b + 2) else (dF d) + (t 1)) := (by unfold dBeg; (repeat' split) <;> omega); have eW : dW (dLet t d b) = (dW d) + 1 := (by show dW d + (if t (6 + 6 * b) ≠ dR d ∧ t (6 + 6 * b) = 1 then 1 else 0) + (if t (6 + 6 * b) = 0 then 1 else 0) = _; (repeat' split) <;> omega); have eT : dT (dLet t d b) = (dT d) + 1 := (by show dT d + (if t (6 + 6 * b) ≠ dR d then 1 else 0) = _; (repeat' split) <;> omega); have eR : dRo (dLet t d b) = (dRo d) + 1 := (by show (if t (6 + 6 * b) = dLa d then dRo d + 1 else 1) = _; (repeat' split) <;> omega); exact ⟨by repeat (first | exact offX.rf _ | refine offX.put0 ?_ (by decide) | refine offX.putA ?_ (by decide)), rfl, rfl, rfl, by show nI ((if (dF d) + (t 1) < t (6 + 6 * b + 2) then t (6 + 6 * b + 2) else (dF d) + (t 1)) + t 0) = nI (dBeg t d b + t 0); rw [eB], rfl, rfl, by rw [eR]; rfl, by rw [eW]; rfl, by rw [eT]; rfl, by intro i; rw [eB]; simp [st2], by intro i; rw [eB]; simp [st2]⟩)
      · refine lv_iconst (v := 1) C.1 C.2.1 dX0_goesThrough_106 (by decide) ?_
        refine lv_goto (tgt := 111) C.1 C.2.1 dX0_goesThrough_107 (by decide) ?_
        refine e_iadd C (z := 2) (by decide) dX0_goesThrough_111 ?_
        refine n_add C (a := dW d) (b := 2) rfl rfl dX0_goesThrough_112 ?_
        refine xp_X0_135_0 C hK I dX0_goesThrough_113 (fun H9 L9 I => ?_)
        refine lv_aload_n C.1 C.2.1 dX0_goesThrough_116 rfl (lv_at hl 3 rfl) ?_
        refine xg_X0_119_0 C hK I dX0_goesThrough_117 ?_
        refine lv_iload_n C.1 C.2.1 dX0_goesThrough_120 rfl (lv_at hl 2 rfl) ?_
        refine lv_aload_n C.1 C.2.1 dX0_goesThrough_121 rfl (lv_at hl 3 rfl) ?_
        refine xg_X0_119_0 C hK I dX0_goesThrough_122 ?_
        refine xg_X0_129_12 C hK I (x := enL (dLa d)) (show _ = _ from hLa) dX0_goesThrough_125 ?_
        refine z_icmp_ne C dX0_goesThrough_128 (tgt := 143) (by decide) (fun c128 => ?_) (fun c128 => ?_)
        · have k128 : t (6 + 6 * b) ≠ dLa d := fun q => c128 ((enL_eq hsd hLa1).mpr q)
          refine lv_iconst (v := 1) C.1 C.2.1 dX0_goesThrough_143 (by decide) ?_
          refine xp_X0_132_12 C hK I dX0_goesThrough_144 (fun H9 L9 I => ?_)
          refine lv_aload_n C.1 C.2.1 dX0_goesThrough_147 rfl (lv_at hl 3 rfl) ?_
          refine xg_X0_119_0 C hK I dX0_goesThrough_148 ?_
          refine lv_iload_n C.1 C.2.1 dX0_goesThrough_151 rfl (lv_at hl 2 rfl) ?_
          refine xp_X0_129_12 C hK I dX0_goesThrough_152 (fun H9 L9 I => ?_)
          refine lv_aload_n C.1 C.2.1 dX0_goesThrough_155 rfl (lv_at hl 3 rfl) ?_
          refine xg_X0_119_0 C hK I dX0_goesThrough_156 ?_
          refine lv_iconst (v := 1) C.1 C.2.1 dX0_goesThrough_159 (by decide) ?_
          refine lv_iload_n C.1 C.2.1 dX0_goesThrough_160 rfl (lv_at hl 2 rfl) ?_
          refine n_sub C (a := 1) (b := t (6 + 6 * b)) rfl rfl (by have z0 := hT (6 + 6 * b); omega) dX0_goesThrough_161 ?_
          refine xp_X0_126_12 C hK I dX0_goesThrough_162 (fun H9 L9 I => ?_)
          refine lv_aload_n C.1 C.2.1 dX0_goesThrough_165 rfl (lv_at hl 3 rfl) ?_
          refine xg_X0_150_0 C hK I dX0_goesThrough_166 ?_
          refine lv_iload_n C.1 C.2.1 dX0_goesThrough_169 rfl (lv_at hl 4 rfl) ?_
          refine lv_iload C.1 C.2.1 dX0_goesThrough_170 (lv_at hl 0 rfl) ?_
          refine lv_aload_n C.1 C.2.1 dX0_goesThrough_172 rfl (lv_at hl 3 rfl) ?_
          refine xg_X0_33_0 C hK I dX0_goesThrough_173 ?_
          refine xg_X0_93_2 C hK I dX0_goesThrough_176 ?_
          refine lv_iload_n C.1 C.2.1 dX0_goesThrough_179 rfl (lv_at hl 4 rfl) ?_
          refine xa_5 C hK I (q := b) (ix_nI (by omega)) (by omega) dX0_goesThrough_180 ?_
          refine lv_iconst (v := 1) C.1 C.2.1 dX0_goesThrough_181 (by decide) ?_
          refine xl_b C hK I (b := b) (by omega) (q := 1) ⟨by decide, rfl⟩ (by decide) (x := nI (t (6 + 6 * b + 2))) (by rw [st2_cell _ _ _ (show (6 + b : Nat) ≠ 12 by omega), st2_cell _ _ _ (show (6 + b : Nat) ≠ 12 by omega), st2_cell _ _ _ (show (6 + b : Nat) ≠ 12 by omega), st2_cell _ _ _ (show (6 + b : Nat) ≠ 0 by omega), st2_cell _ _ _ (show (6 + b : Nat) ≠ 0 by omega)]; exact (hnw.b (by omega) (k := 1) (by decide))) dX0_goesThrough_182 ?_
          refine n_sub C (a := (if (dF d) + (t 1) < t (6 + 6 * b + 2) then t (6 + 6 * b + 2) else (dF d) + (t 1))) (b := t (6 + 6 * b + 2)) rfl rfl (by have z0 := hT 1; have z1 := hT (6 + 6 * b + 2); (first | omega | ((repeat' split) <;> omega))) dX0_goesThrough_183 ?_
          refine xs_16 C hK I (q := b) (ix_nI (by omega)) (by omega) dX0_goesThrough_184 (fun H9 L9 I => ?_)
          refine lv_aload_n C.1 C.2.1 dX0_goesThrough_185 rfl (lv_at hl 3 rfl) ?_
          refine lv_iload C.1 C.2.1 dX0_goesThrough_186 (lv_at hl 0 rfl) ?_
          refine lv_aload_n C.1 C.2.1 dX0_goesThrough_188 rfl (lv_at hl 3 rfl) ?_
          refine xg_X0_33_0 C hK I dX0_goesThrough_189 ?_
          refine xg_X0_79_2 C hK I dX0_goesThrough_192 ?_
          refine lv_iconst (v := 0) C.1 C.2.1 dX0_goesThrough_195 (by decide) ?_
          refine xl_3 C hK I (q := 0) ⟨by decide, rfl⟩ (by decide) (x := nI (t 0)) (show _ = _ from (hnw.1 0 (by omega))) dX0_goesThrough_196 ?_
          refine n_add C (a := (if (dF d) + (t 1) < t (6 + 6 * b + 2) then t (6 + 6 * b + 2) else (dF d) + (t 1))) (b := t 0) rfl rfl dX0_goesThrough_197 ?_
          refine xp_X0_141_0 C hK I dX0_goesThrough_198 (fun H9 L9 I => ?_)
          refine lv_aload_n C.1 C.2.1 dX0_goesThrough_201 rfl (lv_at hl 3 rfl) ?_
          refine xg_X0_153_0 C hK I dX0_goesThrough_202 ?_
          refine lv_iload_n C.1 C.2.1 dX0_goesThrough_205 rfl (lv_at hl 4 rfl) ?_
          refine lv_aload_n C.1 C.2.1 dX0_goesThrough_206 rfl (lv_at hl 3 rfl) ?_
          refine xg_X0_141_0 C hK I (x := nI ((if (dF d) + (t 1) < t (6 + 6 * b + 2) then t (6 + 6 * b + 2) else (dF d) + (t 1)) + (t 0))) rfl dX0_goesThrough_207 ?_
          refine xs_15 C hK I (q := b) (ix_nI (by omega)) (by omega) dX0_goesThrough_210 (fun H9 L9 I => ?_)
          exact g_vret C hr9 hk9 I dX0_goesThrough_211 (by have eB : dBeg t d b = (if (dF d) + (t 1) < t (6 + 6 * b + 2) then t (6 + 6 * b + 2) else (dF d) + (t 1)) := (by unfold dBeg; (repeat' split) <;> omega); have eW : dW (dLet t d b) = (dW d) + 2 := (by show dW d + (if t (6 + 6 * b) ≠ dR d ∧ t (6 + 6 * b) = 1 then 1 else 0) + (if t (6 + 6 * b) = 0 then 1 else 0) = _; (repeat' split) <;> omega); have eT : dT (dLet t d b) = (dT d) + 1 := (by show dT d + (if t (6 + 6 * b) ≠ dR d then 1 else 0) = _; (repeat' split) <;> omega); have eR : dRo (dLet t d b) = 1 := (by show (if t (6 + 6 * b) = dLa d then dRo d + 1 else 1) = _; (repeat' split) <;> omega); exact ⟨by repeat (first | exact offX.rf _ | refine offX.put0 ?_ (by decide) | refine offX.putA ?_ (by decide)), rfl, rfl, rfl, by show nI ((if (dF d) + (t 1) < t (6 + 6 * b + 2) then t (6 + 6 * b + 2) else (dF d) + (t 1)) + t 0) = nI (dBeg t d b + t 0); rw [eB], rfl, rfl, by rw [eR]; rfl, by rw [eW]; rfl, by rw [eT]; rfl, by intro i; rw [eB]; simp [st2], by intro i; rw [eB]; simp [st2]⟩)
        · have k128 : t (6 + 6 * b) = dLa d := (enL_eq hsd hLa1).mp c128
          refine lv_aload_n C.1 C.2.1 dX0_goesThrough_131 rfl (lv_at hl 3 rfl) ?_
          refine xg_X0_119_0 C hK I dX0_goesThrough_132 ?_
          refine xg_X0_132_12 C hK I (x := nI (dRo d)) (show _ = _ from hRo) dX0_goesThrough_135 ?_
          refine lv_iconst (v := 1) C.1 C.2.1 dX0_goesThrough_138 (by decide) ?_
          refine n_add C (a := dRo d) (b := 1) rfl rfl dX0_goesThrough_139 ?_
          refine lv_goto (tgt := 144) C.1 C.2.1 dX0_goesThrough_140 (by decide) ?_
          refine xp_X0_132_12 C hK I dX0_goesThrough_144 (fun H9 L9 I => ?_)
          refine lv_aload_n C.1 C.2.1 dX0_goesThrough_147 rfl (lv_at hl 3 rfl) ?_
          refine xg_X0_119_0 C hK I dX0_goesThrough_148 ?_
          refine lv_iload_n C.1 C.2.1 dX0_goesThrough_151 rfl (lv_at hl 2 rfl) ?_
          refine xp_X0_129_12 C hK I dX0_goesThrough_152 (fun H9 L9 I => ?_)
          refine lv_aload_n C.1 C.2.1 dX0_goesThrough_155 rfl (lv_at hl 3 rfl) ?_
          refine xg_X0_119_0 C hK I dX0_goesThrough_156 ?_
          refine lv_iconst (v := 1) C.1 C.2.1 dX0_goesThrough_159 (by decide) ?_
          refine lv_iload_n C.1 C.2.1 dX0_goesThrough_160 rfl (lv_at hl 2 rfl) ?_
          refine n_sub C (a := 1) (b := t (6 + 6 * b)) rfl rfl (by have z0 := hT (6 + 6 * b); omega) dX0_goesThrough_161 ?_
          refine xp_X0_126_12 C hK I dX0_goesThrough_162 (fun H9 L9 I => ?_)
          refine lv_aload_n C.1 C.2.1 dX0_goesThrough_165 rfl (lv_at hl 3 rfl) ?_
          refine xg_X0_150_0 C hK I dX0_goesThrough_166 ?_
          refine lv_iload_n C.1 C.2.1 dX0_goesThrough_169 rfl (lv_at hl 4 rfl) ?_
          refine lv_iload C.1 C.2.1 dX0_goesThrough_170 (lv_at hl 0 rfl) ?_
          refine lv_aload_n C.1 C.2.1 dX0_goesThrough_172 rfl (lv_at hl 3 rfl) ?_
          refine xg_X0_33_0 C hK I dX0_goesThrough_173 ?_
          refine xg_X0_93_2 C hK I dX0_goesThrough_176 ?_
          refine lv_iload_n C.1 C.2.1 dX0_goesThrough_179 rfl (lv_at hl 4 rfl) ?_
          refine xa_5 C hK I (q := b) (ix_nI (by omega)) (by omega) dX0_goesThrough_180 ?_
          refine lv_iconst (v := 1) C.1 C.2.1 dX0_goesThrough_181 (by decide) ?_
          refine xl_b C hK I (b := b) (by omega) (q := 1) ⟨by decide, rfl⟩ (by decide) (x := nI (t (6 + 6 * b + 2))) (by rw [st2_cell _ _ _ (show (6 + b : Nat) ≠ 12 by omega), st2_cell _ _ _ (show (6 + b : Nat) ≠ 12 by omega), st2_cell _ _ _ (show (6 + b : Nat) ≠ 12 by omega), st2_cell _ _ _ (show (6 + b : Nat) ≠ 0 by omega), st2_cell _ _ _ (show (6 + b : Nat) ≠ 0 by omega)]; exact (hnw.b (by omega) (k := 1) (by decide))) dX0_goesThrough_182 ?_
          refine n_sub C (a := (if (dF d) + (t 1) < t (6 + 6 * b + 2) then t (6 + 6 * b + 2) else (dF d) + (t 1))) (b := t (6 + 6 * b + 2)) rfl rfl (by have z0 := hT 1; have z1 := hT (6 + 6 * b + 2); (first | omega | ((repeat' split) <;> omega))) dX0_goesThrough_183 ?_
          refine xs_16 C hK I (q := b) (ix_nI (by omega)) (by omega) dX0_goesThrough_184 (fun H9 L9 I => ?_)
          refine lv_aload_n C.1 C.2.1 dX0_goesThrough_185 rfl (lv_at hl 3 rfl) ?_
          refine lv_iload C.1 C.2.1 dX0_goesThrough_186 (lv_at hl 0 rfl) ?_
          refine lv_aload_n C.1 C.2.1 dX0_goesThrough_188 rfl (lv_at hl 3 rfl) ?_
          refine xg_X0_33_0 C hK I dX0_goesThrough_189 ?_
          refine xg_X0_79_2 C hK I dX0_goesThrough_192 ?_
          refine lv_iconst (v := 0) C.1 C.2.1 dX0_goesThrough_195 (by decide) ?_
          refine xl_3 C hK I (q := 0) ⟨by decide, rfl⟩ (by decide) (x := nI (t 0)) (show _ = _ from (hnw.1 0 (by omega))) dX0_goesThrough_196 ?_
          refine n_add C (a := (if (dF d) + (t 1) < t (6 + 6 * b + 2) then t (6 + 6 * b + 2) else (dF d) + (t 1))) (b := t 0) rfl rfl dX0_goesThrough_197 ?_
          refine xp_X0_141_0 C hK I dX0_goesThrough_198 (fun H9 L9 I => ?_)
          refine lv_aload_n C.1 C.2.1 dX0_goesThrough_201 rfl (lv_at hl 3 rfl) ?_
          refine xg_X0_153_0 C hK I dX0_goesThrough_202 ?_
          refine lv_iload_n C.1 C.2.1 dX0_goesThrough_205 rfl (lv_at hl 4 rfl) ?_
          refine lv_aload_n C.1 C.2.1 dX0_goesThrough_206 rfl (lv_at hl 3 rfl) ?_
          refine xg_X0_141_0 C hK I (x := nI ((if (dF d) + (t 1) < t (6 + 6 * b + 2) then t (6 + 6 * b + 2) else (dF d) + (t 1)) + (t 0))) rfl dX0_goesThrough_207 ?_
          refine xs_15 C hK I (q := b) (ix_nI (by omega)) (by omega) dX0_goesThrough_210 (fun H9 L9 I => ?_)
          exact g_vret C hr9 hk9 I dX0_goesThrough_211 (by have eB : dBeg t d b = (if (dF d) + (t 1) < t (6 + 6 * b + 2) then t (6 + 6 * b + 2) else (dF d) + (t 1)) := (by unfold dBeg; (repeat' split) <;> omega); have eW : dW (dLet t d b) = (dW d) + 2 := (by show dW d + (if t (6 + 6 * b) ≠ dR d ∧ t (6 + 6 * b) = 1 then 1 else 0) + (if t (6 + 6 * b) = 0 then 1 else 0) = _; (repeat' split) <;> omega); have eT : dT (dLet t d b) = (dT d) + 1 := (by show dT d + (if t (6 + 6 * b) ≠ dR d then 1 else 0) = _; (repeat' split) <;> omega); have eR : dRo (dLet t d b) = (dRo d) + 1 := (by show (if t (6 + 6 * b) = dLa d then dRo d + 1 else 1) = _; (repeat' split) <;> omega); exact ⟨by repeat (first | exact offX.rf _ | refine offX.put0 ?_ (by decide) | refine offX.putA ?_ (by decide)), rfl, rfl, rfl, by show nI ((if (dF d) + (t 1) < t (6 + 6 * b + 2) then t (6 + 6 * b + 2) else (dF d) + (t 1)) + t 0) = nI (dBeg t d b + t 0); rw [eB], rfl, rfl, by rw [eR]; rfl, by rw [eW]; rfl, by rw [eT]; rfl, by intro i; rw [eB]; simp [st2], by intro i; rw [eB]; simp [st2]⟩)
set_option maxHeartbeats 4000000 in
theorem met_X0_nextFree (l : Launch) (E : GEnv) (s0 : State) (ad : Nat → Nat) (ro : Nat → Option Nat) (v : Mem) (t : Nat → Nat) (n : Nat) (d : Day) (L : Nat) (hnw : NwV v t) (hT : TB t) (hn : v 0 4 = nI n) (hn6 : n ≤ 6) (hL : L < 64) (hF : v 0 11 = nI (dF d)) (hF1 : dF d < 100000) : MxI l yX0_nextFree cX0_nextFree 4 (some .int) 2 s0 E vwCl tlA (wX ad) (rX ad ro (some (ad 2))) (rX ad ro (some (ad 2))) [.ref (ad 0), .int (nI L)] v (fun x9 v9 => x9 = nI (dFree t n L d) ∧ v9 = v) := by
  refine MetX.of RX0 [(0, .ref (ad 0)), (1, .int (nI L))] (by decide) rfl rfl (Nat.le_of_ble_eq_true rfl) ?_
  intro P9 e9 s9 m9 a9 b9 q9 c9 A9 C hK hr9 hk9 hA hO hAo I ls hl
  refine lv_ldc C.1 C.2.1 C.2.2.2.1 (C.2.2.2.2 _ q476) dX0_nextFree_0 ?_
  refine lv_istore_n (lv' := [(2, .int 1000000), (0, .ref (ad 0)), (1, .int (nI L))]) C.1 C.2.1 dX0_nextFree_2 rfl hl (Nat.le_of_ble_eq_true rfl) rfl (fun ls hl => ?_)
  refine lv_iconst (v := 0) C.1 C.2.1 dX0_nextFree_3 (by decide) ?_
  refine lv_istore_n (lv' := [(3, .int 0), (2, .int 1000000), (0, .ref (ad 0)), (1, .int (nI L))]) C.1 C.2.1 dX0_nextFree_4 rfl hl (Nat.le_of_ble_eq_true rfl) rfl (fun ls hl => ?_)
  have cut5 : ∀ (k9_5 : Nat) (b : Nat) (x : Nat) (H9 : Heap) (L9 : List Loc) (ls : Array Slot), (n - b < k9_5) → (b ≤ n) → (x ≤ 1000000) → (x = mnc t L b) → GI E vwCl (wX ad) (rX ad ro (some (ad 2))) A9 s9.heap v H9 L9 → lv_has ls 4 [(3, .int (nI b)), (2, .int (nI x)), (0, .ref (ad 0)), (1, .int (nI L))] → W P9 l e9 (rmD 2 0 0) s9 m9 a9 b9 q9 c9 H9 L9 0 0 (MQ b9 (QI E vwCl (wX ad) (rX ad ro (some (ad 2))) (fun x9 v9 => x9 = nI (dFree t n L d) ∧ v9 = v) A9) a9 s9 0 0 A9) (F0 m9 5 ls []) := by
    intro k9_5
    induction k9_5 with
    | zero =>
      intro b x H9 L9 ls h9_5
      exact absurd h9_5 (Nat.not_lt_zero _)
    | succ k9_5 ih5 =>
      intro b x H9 L9 ls h9_5 hb hx ex I hl
      refine lv_iload_n C.1 C.2.1 dX0_nextFree_5 rfl (lv_at hl 0 rfl) ?_
      refine lv_aload_n C.1 C.2.1 dX0_nextFree_6 rfl (lv_at hl 2 rfl) ?_
      refine xg_X0_49_0 C hK I (x := nI n) hn dX0_nextFree_7 ?_
      refine n_icmp_ge C (a := b) (b := n) rfl rfl (by omega) (by omega) dX0_nextFree_10 (tgt := 44) (by decide) (fun c10 => ?_) (fun c10 => ?_)
      · refine lv_aload_n C.1 C.2.1 dX0_nextFree_44 rfl (lv_at hl 2 rfl) ?_
        refine xg_X0_141_0 C hK I (x := nI (dF d)) hF dX0_nextFree_45 ?_
        refine lv_iload_n C.1 C.2.1 dX0_nextFree_48 rfl (lv_at hl 1 rfl) ?_
        refine x_maxN C (a := dF d) (b := x) rfl rfl (by omega) (by omega) hl.1 (Nat.le_of_ble_eq_true rfl) (Nat.le_of_ble_eq_true rfl) mxL_X0 dX0_nextFree_49 ?_
        exact g_iret C hr9 hk9 I dX0_nextFree_52 (⟨by unfold dFree; rw [← show x = mnc t L n by rw [ex, show b = n by omega]], rfl⟩)
      · refine lv_iload_n C.1 C.2.1 dX0_nextFree_13 rfl (lv_at hl 3 rfl) ?_
        refine lv_iload_n C.1 C.2.1 dX0_nextFree_14 rfl (lv_at hl 0 rfl) ?_
        refine x_outI hA I (x_runS C hK hO hAo I cs_X0_157 (met_X0_has l E s0 (wX ad) (rX ad ro (some (ad 2))) v  L b (by first | assumption | omega) (by first | assumption | omega)) (Nat.le_of_ble_eq_true rfl) rfl hl.1 rfl (Nat.le_of_ble_eq_true rfl) dX0_nextFree_15) (fun x_1 v9 H9 L9 hp I => ?_)
        rcases hp with ⟨hx_1, b15, hv9⟩ | ⟨hx_1, b15, hv9⟩
        · rw [hv9] at I; subst hx_1; clear hv9
          refine f_if_eq C (by decide) dX0_nextFree_18 (tgt := 36) (by decide) ?_
          refine lv_iload_n C.1 C.2.1 dX0_nextFree_21 rfl (lv_at hl 1 rfl) ?_
          refine lv_aload_n C.1 C.2.1 dX0_nextFree_22 rfl (lv_at hl 2 rfl) ?_
          refine xg_X0_33_0 C hK I dX0_nextFree_23 ?_
          refine lv_iload_n C.1 C.2.1 dX0_nextFree_26 rfl (lv_at hl 0 rfl) ?_
          refine x_outI hA I (x_runV C hK hO hAo I 2 cv_X0_97 rfl (Nat.le_of_ble_eq_true rfl) rfl (met_X1_counts l E s0 (wX ad) (rX ad ro (some (ad 2))) v 2 t b (told_2 ad ro _) hnw hT (by first | assumption | omega)) (Nat.le_of_ble_eq_true rfl) rfl hl.1 rfl (Nat.le_of_ble_eq_true rfl) dX0_nextFree_27) (fun x_2 v9 H9 L9 hp I => ?_)
          obtain ⟨hx_2, hv9⟩ := hp
          rw [hv9] at I; subst hx_2; clear hv9
          refine x_minN C (a := x) (b := cnt t b) rfl rfl (by omega) (by have z0 := hT b; have z1 := cnt_le hT b; omega) hl.1 (Nat.le_of_ble_eq_true rfl) (Nat.le_of_ble_eq_true rfl) mnL_X0 dX0_nextFree_30 ?_
          refine lv_goto (tgt := 37) C.1 C.2.1 dX0_nextFree_33 (by decide) ?_
          refine lv_istore_n (lv' := [(2, .int (nI (if cnt t b < x then cnt t b else x))), (3, .int (nI b)), (0, .ref (ad 0)), (1, .int (nI L))]) C.1 C.2.1 dX0_nextFree_37 rfl hl (Nat.le_of_ble_eq_true rfl) rfl (fun ls hl => ?_)
          refine lv_iinc (v := nI (b + 1)) (lv' := [(3, .int (nI (b + 1))), (2, .int (nI (if cnt t b < x then cnt t b else x))), (0, .ref (ad 0)), (1, .int (nI L))]) C.1 C.2.1 dX0_nextFree_38 hl (k := 1) rfl (nI_add _ 1) (Nat.le_of_ble_eq_true rfl) rfl (fun ls hl => ?_)
          refine lv_goto (tgt := 5) C.1 C.2.1 dX0_nextFree_41 (by decide) ?_
          exact ih5 (b + 1) (if cnt t b < x then cnt t b else x) _ _ _ (by omega) (by first | assumption | omega) (by have := cnt_le hT b; first | assumption | (split <;> omega)) (by simp only [mnc]; rw [← ex]; simp [b15]) I (lv_sub hl [0, 1, 2, 3] rfl)
        · rw [hv9] at I; subst hx_1; clear hv9
          refine t_if_eq C (by decide) dX0_nextFree_18 (tgt := 36) (by decide) ?_
          refine lv_iload_n C.1 C.2.1 dX0_nextFree_36 rfl (lv_at hl 1 rfl) ?_
          refine lv_istore_n (lv' := [(2, .int (nI x)), (3, .int (nI b)), (0, .ref (ad 0)), (1, .int (nI L))]) C.1 C.2.1 dX0_nextFree_37 rfl hl (Nat.le_of_ble_eq_true rfl) rfl (fun ls hl => ?_)
          refine lv_iinc (v := nI (b + 1)) (lv' := [(3, .int (nI (b + 1))), (2, .int (nI x)), (0, .ref (ad 0)), (1, .int (nI L))]) C.1 C.2.1 dX0_nextFree_38 hl (k := 1) rfl (nI_add _ 1) (Nat.le_of_ble_eq_true rfl) rfl (fun ls hl => ?_)
          refine lv_goto (tgt := 5) C.1 C.2.1 dX0_nextFree_41 (by decide) ?_
          exact ih5 (b + 1) x _ _ _ (by omega) (by first | assumption | omega) (by have := cnt_le hT b; first | assumption | (split <;> omega)) (by simp only [mnc]; rw [← ex]; simp [b15]) I (lv_sub hl [0, 1, 2, 3] rfl)
  exact cut5 _ 0 1000000 _ _ _ (Nat.lt_succ_self _) (by first | assumption | omega) (by decide) rfl I (lv_sub hl [0, 1, 2, 3] rfl)
set_option maxHeartbeats 4000000 in
theorem met_X0_cost (l : Launch) (E : GEnv) (s0 : State) (ad : Nat → Nat) (ro : Nat → Option Nat) (v : Mem) (t s : Nat → Nat) (n : Nat) (hnw : NwV v t) (hT : TB t) (hn : v 0 4 = nI n) (hn6 : n ≤ 6) (hs : ∀ b, b < n → v 16 b = nI (s b)) : MxI l yX0_cost cX0_cost 3 (some .int) 0 s0 E vwCl tlA (wX ad) (rX ad ro (some (ad 2))) (rX ad ro (some (ad 2))) [.ref (ad 0)] v (fun x9 v9 => x9 = nI (cost t s n) ∧ v9 = v) := by
  refine MetX.of RX0 [(0, .ref (ad 0))] (by decide) rfl rfl (Nat.le_of_ble_eq_true rfl) ?_
  intro P9 e9 s9 m9 a9 b9 q9 c9 A9 C hK hr9 hk9 hA hO hAo I ls hl
  refine lv_iconst (v := 0) C.1 C.2.1 dX0_cost_0 (by decide) ?_
  refine lv_istore_n (lv' := [(1, .int 0), (0, .ref (ad 0))]) C.1 C.2.1 dX0_cost_1 rfl hl (Nat.le_of_ble_eq_true rfl) rfl (fun ls hl => ?_)
  refine lv_iconst (v := 0) C.1 C.2.1 dX0_cost_2 (by decide) ?_
  refine lv_istore_n (lv' := [(2, .int 0), (1, .int 0), (0, .ref (ad 0))]) C.1 C.2.1 dX0_cost_3 rfl hl (Nat.le_of_ble_eq_true rfl) rfl (fun ls hl => ?_)
  have cut4 : ∀ (k9_4 : Nat) (b : Nat) (x : Nat) (H9 : Heap) (L9 : List Loc) (ls : Array Slot), (n - b < k9_4) → (b ≤ n) → (x = cost t s b) → GI E vwCl (wX ad) (rX ad ro (some (ad 2))) A9 s9.heap v H9 L9 → lv_has ls 3 [(2, .int (nI b)), (1, .int (nI x)), (0, .ref (ad 0))] → W P9 l e9 (rmD 0 0 0) s9 m9 a9 b9 q9 c9 H9 L9 0 0 (MQ b9 (QI E vwCl (wX ad) (rX ad ro (some (ad 2))) (fun x9 v9 => x9 = nI (cost t s n) ∧ v9 = v) A9) a9 s9 0 0 A9) (F0 m9 4 ls []) := by
    intro k9_4
    induction k9_4 with
    | zero =>
      intro b x H9 L9 ls h9_4
      exact absurd h9_4 (Nat.not_lt_zero _)
    | succ k9_4 ih4 =>
      intro b x H9 L9 ls h9_4 hb ex I hl
      refine lv_iload_n C.1 C.2.1 dX0_cost_4 rfl (lv_at hl 0 rfl) ?_
      refine lv_aload_n C.1 C.2.1 dX0_cost_5 rfl (lv_at hl 2 rfl) ?_
      refine xg_X0_49_0 C hK I (x := nI n) hn dX0_cost_6 ?_
      refine n_icmp_ge C (a := b) (b := n) rfl rfl (by omega) (by omega) dX0_cost_9 (tgt := 39) (by decide) (fun c9 => ?_) (fun c9 => ?_)
      · refine lv_iload_n C.1 C.2.1 dX0_cost_39 rfl (lv_at hl 1 rfl) ?_
        exact g_iret C hr9 hk9 I dX0_cost_40 (⟨by rw [ex, show b = n by omega], rfl⟩)
      · refine lv_iload_n C.1 C.2.1 dX0_cost_12 rfl (lv_at hl 1 rfl) ?_
        refine lv_aload_n C.1 C.2.1 dX0_cost_13 rfl (lv_at hl 2 rfl) ?_
        refine xg_X0_150_0 C hK I dX0_cost_14 ?_
        refine lv_iload_n C.1 C.2.1 dX0_cost_17 rfl (lv_at hl 0 rfl) ?_
        refine xl_16 C hK I (q := b) (ix_nI (by omega)) (by omega) (x := nI (s b)) (hs _ (by omega)) dX0_cost_18 ?_
        refine lv_aload_n C.1 C.2.1 dX0_cost_19 rfl (lv_at hl 2 rfl) ?_
        refine xg_X0_33_0 C hK I dX0_cost_20 ?_
        refine xg_X0_93_2 C hK I dX0_cost_23 ?_
        refine lv_iload_n C.1 C.2.1 dX0_cost_26 rfl (lv_at hl 0 rfl) ?_
        refine xa_5 C hK I (q := b) (ix_nI (by omega)) (by omega) dX0_cost_27 ?_
        refine lv_iconst (v := 2) C.1 C.2.1 dX0_cost_28 (by decide) ?_
        refine xl_b C hK I (b := b) (by omega) (q := 2) ⟨by decide, rfl⟩ (by decide) (x := nI (t (6 + 6 * b + 3))) (hnw.b (by omega) (k := 2) (by decide)) dX0_cost_29 ?_
        refine n_mul C (a := s b) (b := t (6 + 6 * b + 3)) rfl rfl dX0_cost_30 ?_
        refine n_add C (a := x) (b := (s b) * (t (6 + 6 * b + 3))) rfl rfl dX0_cost_31 ?_
        refine lv_istore_n (lv' := [(1, .int (nI (x + ((s b) * (t (6 + 6 * b + 3)))))), (2, .int (nI b)), (0, .ref (ad 0))]) C.1 C.2.1 dX0_cost_32 rfl hl (Nat.le_of_ble_eq_true rfl) rfl (fun ls hl => ?_)
        refine lv_iinc (v := nI (b + 1)) (lv' := [(2, .int (nI (b + 1))), (1, .int (nI (x + ((s b) * (t (6 + 6 * b + 3)))))), (0, .ref (ad 0))]) C.1 C.2.1 dX0_cost_33 hl (k := 1) rfl (nI_add _ 1) (Nat.le_of_ble_eq_true rfl) rfl (fun ls hl => ?_)
        refine lv_goto (tgt := 4) C.1 C.2.1 dX0_cost_36 (by decide) ?_
        exact ih4 (b + 1) (x + ((s b) * (t (6 + 6 * b + 3)))) _ _ _ (by omega) (by first | assumption | omega) (by rw [ex]; rfl) I (lv_sub hl [0, 1, 2] rfl)
  exact cut4 _ 0 0 _ _ _ (Nat.lt_succ_self _) (by first | assumption | omega) rfl I (lv_sub hl [0, 1, 2] rfl)
set_option maxHeartbeats 4000000 in
theorem met_X0_dayTold (l : Launch) (E : GEnv) (s0 : State) (ad : Nat → Nat) (ro : Nat → Option Nat) (v : Mem) (t : Nat → Nat) (n : Nat) (d : Day) (k : Nat) (hnw : NwV v t) (hT : TB t) (hn : v 0 4 = nI n) (hn6 : n ≤ 6) (hk : k < 5) (hDX : DX v n 0 d) (hs2 : ∀ b, dS d b ≤ 100000) : MxI l yX0_dayTold cX0_dayTold 4 (some .int) 1 s0 E vwCl tlA (wX ad) (rX ad ro (some (ad 2))) (rX ad ro (some (ad 2))) [.ref (ad 0), .int (nI k)] v (fun x9 v9 => x9 = nI (tellN t n d k) ∧ v9 = v) := by
  refine MetX.of RX0 [(0, .ref (ad 0)), (1, .int (nI k))] (by decide) rfl rfl (Nat.le_of_ble_eq_true rfl) ?_
  intro P9 e9 s9 m9 a9 b9 q9 c9 A9 C hK hr9 hk9 hA hO hAo I ls hl
  refine lv_iconst (v := 0) C.1 C.2.1 dX0_dayTold_0 (by decide) ?_
  refine lv_istore_n (lv' := [(2, .int 0), (0, .ref (ad 0)), (1, .int (nI k))]) C.1 C.2.1 dX0_dayTold_1 rfl hl (Nat.le_of_ble_eq_true rfl) rfl (fun ls hl => ?_)
  refine lv_iconst (v := 0) C.1 C.2.1 dX0_dayTold_2 (by decide) ?_
  refine lv_istore_n (lv' := [(3, .int 0), (2, .int 0), (0, .ref (ad 0)), (1, .int (nI k))]) C.1 C.2.1 dX0_dayTold_3 rfl hl (Nat.le_of_ble_eq_true rfl) rfl (fun ls hl => ?_)
  have cut4 : ∀ (k9_4 : Nat) (b : Nat) (x : Nat) (H9 : Heap) (L9 : List Loc) (ls : Array Slot), (n - b < k9_4) → (b ≤ n) → (x ≤ 100000) → (x = lng (dS d) b) → GI E vwCl (wX ad) (rX ad ro (some (ad 2))) A9 s9.heap v H9 L9 → lv_has ls 4 [(3, .int (nI b)), (2, .int (nI x)), (0, .ref (ad 0)), (1, .int (nI k))] → W P9 l e9 (rmD 1 0 0) s9 m9 a9 b9 q9 c9 H9 L9 0 0 (MQ b9 (QI E vwCl (wX ad) (rX ad ro (some (ad 2))) (fun x9 v9 => x9 = nI (tellN t n d k) ∧ v9 = v) A9) a9 s9 0 0 A9) (F0 m9 4 ls []) := by
    intro k9_4
    induction k9_4 with
    | zero =>
      intro b x H9 L9 ls h9_4
      exact absurd h9_4 (Nat.not_lt_zero _)
    | succ k9_4 ih4 =>
      intro b x H9 L9 ls h9_4 hb hx ex I hl
      refine lv_iload_n C.1 C.2.1 dX0_dayTold_4 rfl (lv_at hl 0 rfl) ?_
      refine lv_aload_n C.1 C.2.1 dX0_dayTold_5 rfl (lv_at hl 2 rfl) ?_
      refine xg_X0_49_0 C hK I (x := nI n) hn dX0_dayTold_6 ?_
      refine n_icmp_ge C (a := b) (b := n) rfl rfl (by omega) (by omega) dX0_dayTold_9 (tgt := 29) (by decide) (fun c9 => ?_) (fun c9 => ?_)
      · refine lv_iload_n C.1 C.2.1 dX0_dayTold_29 rfl (lv_at hl 3 rfl) ?_
        rcases (by omega : k = 0 ∨ k = 1 ∨ k = 2 ∨ k = 3 ∨ k = 4) with e3 | e3 | e3 | e3 | e3
        · refine lv_tableIn C.1 C.2.1 dX0_dayTold_30 (off := 30) (tgt := 60) (by rw [e3]; decide) (by rw [e3]; decide) (by rw [e3]; decide) (by decide) ?_
          refine lv_aload_n C.1 C.2.1 dX0_dayTold_60 rfl (lv_at hl 2 rfl) ?_
          refine x_outI hA I (x_runV C hK hO hAo I 0 cv_X0_201 rfl (Nat.le_of_ble_eq_true rfl) rfl (met_X0_cost l E s0 ad ro v t (dS d) n  (by first | assumption | omega) (by first | assumption | omega) (by first | assumption | omega) (by first | assumption | omega) hDX.sd) (Nat.le_of_ble_eq_true rfl) rfl hl.1 rfl (Nat.le_of_ble_eq_true rfl) dX0_dayTold_61) (fun x_1 v9 H9 L9 hp I => ?_)
          obtain ⟨hx_1, hv9⟩ := hp
          rw [hv9] at I; subst hx_1; clear hv9
          exact g_iret C hr9 hk9 I dX0_dayTold_64 (⟨by unfold tellN; rw [e3]; first | rfl | (rw [← show x = lng (dS d) n by rw [ex, show b = n by omega]]; rfl) | (simp [c76]; done) | (simp [c76]; rfl), rfl⟩)
        · refine lv_tableIn C.1 C.2.1 dX0_dayTold_30 (off := 35) (tgt := 65) (by rw [e3]; decide) (by rw [e3]; decide) (by rw [e3]; decide) (by decide) ?_
          refine lv_iload_n C.1 C.2.1 dX0_dayTold_65 rfl (lv_at hl 1 rfl) ?_
          exact g_iret C hr9 hk9 I dX0_dayTold_66 (⟨by unfold tellN; rw [e3]; first | rfl | (rw [← show x = lng (dS d) n by rw [ex, show b = n by omega]]; rfl) | (simp [c76]; done) | (simp [c76]; rfl), rfl⟩)
        · refine lv_tableIn C.1 C.2.1 dX0_dayTold_30 (off := 37) (tgt := 67) (by rw [e3]; decide) (by rw [e3]; decide) (by rw [e3]; decide) (by decide) ?_
          refine lv_aload_n C.1 C.2.1 dX0_dayTold_67 rfl (lv_at hl 2 rfl) ?_
          refine xg_X0_135_0 C hK I (x := nI (dW d)) hDX.2.2.2.2.1 dX0_dayTold_68 ?_
          exact g_iret C hr9 hk9 I dX0_dayTold_71 (⟨by unfold tellN; rw [e3]; first | rfl | (rw [← show x = lng (dS d) n by rw [ex, show b = n by omega]]; rfl) | (simp [c76]; done) | (simp [c76]; rfl), rfl⟩)
        · refine lv_tableIn C.1 C.2.1 dX0_dayTold_30 (off := 42) (tgt := 72) (by rw [e3]; decide) (by rw [e3]; decide) (by rw [e3]; decide) (by decide) ?_
          refine lv_aload_n C.1 C.2.1 dX0_dayTold_72 rfl (lv_at hl 2 rfl) ?_
          refine xg_X0_49_0 C hK I (x := nI n) hn dX0_dayTold_73 ?_
          refine n_if_ne C (a := n) rfl (by omega) dX0_dayTold_76 (tgt := 83) (by decide) (fun c76 => ?_) (fun c76 => ?_)
          · refine lv_aload_n C.1 C.2.1 dX0_dayTold_83 rfl (lv_at hl 2 rfl) ?_
            refine xg_X0_141_0 C hK I (x := nI (dF d)) hDX.1 dX0_dayTold_84 ?_
            exact g_iret C hr9 hk9 I dX0_dayTold_87 (⟨by unfold tellN; rw [e3]; first | rfl | (rw [← show x = lng (dS d) n by rw [ex, show b = n by omega]]; rfl) | (simp [c76]; done) | (simp [c76]; rfl), rfl⟩)
          · refine lv_iconst (v := 0) C.1 C.2.1 dX0_dayTold_79 (by decide) ?_
            refine lv_goto (tgt := 87) C.1 C.2.1 dX0_dayTold_80 (by decide) ?_
            exact g_iret C hr9 hk9 I dX0_dayTold_87 (⟨by unfold tellN; rw [e3]; first | rfl | (rw [← show x = lng (dS d) n by rw [ex, show b = n by omega]]; rfl) | (simp [c76]; done) | (simp [c76]; rfl), rfl⟩)
        · refine lv_tableOut C.1 C.2.1 dX0_dayTold_30 (tgt := 88) (by rw [e3]; decide) (by decide) ?_
          refine lv_aload_n C.1 C.2.1 dX0_dayTold_88 rfl (lv_at hl 2 rfl) ?_
          refine xg_X0_138_0 C hK I (x := nI (dT d)) hDX.2.2.2.2.2.1 dX0_dayTold_89 ?_
          exact g_iret C hr9 hk9 I dX0_dayTold_92 (⟨by unfold tellN; rw [e3]; first | rfl | (rw [← show x = lng (dS d) n by rw [ex, show b = n by omega]]; rfl) | (simp [c76]; done) | (simp [c76]; rfl), rfl⟩)
      · refine lv_iload_n C.1 C.2.1 dX0_dayTold_12 rfl (lv_at hl 1 rfl) ?_
        refine lv_aload_n C.1 C.2.1 dX0_dayTold_13 rfl (lv_at hl 2 rfl) ?_
        refine xg_X0_150_0 C hK I dX0_dayTold_14 ?_
        refine lv_iload_n C.1 C.2.1 dX0_dayTold_17 rfl (lv_at hl 0 rfl) ?_
        refine xl_16 C hK I (q := b) (ix_nI (by omega)) (by omega) (x := nI (dS d b)) (hDX.sd _ (by omega)) dX0_dayTold_18 ?_
        refine x_maxN C (a := x) (b := dS d b) rfl rfl (by omega) (by have z0 := hs2 b; omega) hl.1 (Nat.le_of_ble_eq_true rfl) (Nat.le_of_ble_eq_true rfl) mxL_X0 dX0_dayTold_19 ?_
        refine lv_istore_n (lv' := [(2, .int (nI (if x < dS d b then dS d b else x))), (3, .int (nI b)), (0, .ref (ad 0)), (1, .int (nI k))]) C.1 C.2.1 dX0_dayTold_22 rfl hl (Nat.le_of_ble_eq_true rfl) rfl (fun ls hl => ?_)
        refine lv_iinc (v := nI (b + 1)) (lv' := [(3, .int (nI (b + 1))), (2, .int (nI (if x < dS d b then dS d b else x))), (0, .ref (ad 0)), (1, .int (nI k))]) C.1 C.2.1 dX0_dayTold_23 hl (k := 1) rfl (nI_add _ 1) (Nat.le_of_ble_eq_true rfl) rfl (fun ls hl => ?_)
        refine lv_goto (tgt := 4) C.1 C.2.1 dX0_dayTold_26 (by decide) ?_
        exact ih4 (b + 1) (if x < dS d b then dS d b else x) _ _ _ (by omega) (by first | assumption | omega) (by have := hs2 b; split <;> omega) (by simp only [lng]; rw [← ex]) I (lv_sub hl [0, 1, 2, 3] rfl)
  exact cut4 _ 0 0 _ _ _ (Nat.lt_succ_self _) (by first | assumption | omega) (by decide) rfl I (lv_sub hl [0, 1, 2, 3] rfl)
