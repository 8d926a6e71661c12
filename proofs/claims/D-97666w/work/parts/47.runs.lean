/-! LockTurns: a day by a law -/
set_option maxRecDepth 100000
set_option maxHeartbeats 4000000 in
theorem met_X0_runs (l : Launch) (E : GEnv) (s0 : State) (ad : Nat → Nat) (ro : Nat → Option Nat) (gt : Option Nat) (v : Mem) (t : Nat → Nat) (n : Nat) (kq : Nat → Nat) (k : Nat) (cg : Nat) (hnw : NwV v t) (hwt : WT t) (hn : v 0 4 = nI n) (hn6 : n ≤ 6) (hk : k < 5) (hcg : cg < 64) (hst : StX s0 kq) : MxV l yX0_runs cX0_runs 5 none 4 s0 E vwCl tlA (wX ad) (rX ad ro gt) (rX ad ro (some (ad 2))) [.ref (ad 0), .int (nI k), .int (nI cg)] v (fun v9 => RnP t n k cg v v9) := by
  refine MetX.of RX0 [(0, .ref (ad 0)), (1, .int (nI k)), (2, .int (nI cg))] (by decide) rfl rfl (Nat.le_of_ble_eq_true rfl) ?_
  intro P9 e9 s9 m9 a9 b9 q9 c9 A9 C hK hr9 hk9 hA hO hAo I ls hl
  have hp2 := pow_le64 hn6
  have hT := hwt.1
  obtain ⟨tk, hZk, hTk⟩ := hst.1
  refine lv_iconst (v := 1) C.1 C.2.1 dX0_runs_0 (by decide) ?_
  refine lv_aload_n C.1 C.2.1 dX0_runs_1 rfl (lv_at hl 0 rfl) ?_
  refine xg_X0_49_0 C hK I (x := nI n) hn dX0_runs_2 ?_
  refine e_ishl C (z := nI (2 ^ n)) (shl_1 (by omega)) dX0_runs_5 ?_
  refine lv_iconst (v := 1) C.1 C.2.1 dX0_runs_6 (by decide) ?_
  refine n_sub C (a := 2 ^ n) (b := 1) rfl rfl Nat.one_le_two_pow dX0_runs_7 ?_
  refine lv_istore_n (lv' := [(3, .int (nI (2 ^ n - 1))), (0, .ref (ad 0)), (1, .int (nI k)), (2, .int (nI cg))]) C.1 C.2.1 dX0_runs_8 rfl hl (Nat.le_of_ble_eq_true rfl) rfl (fun ls hl => ?_)
  refine lv_aload_n C.1 C.2.1 dX0_runs_9 rfl (lv_at hl 1 rfl) ?_
  refine x_outV hA I (x_runV C hK hO hAo I 0 cv_X0_173 rfl (Nat.le_of_ble_eq_true rfl) rfl (met_X0_opens l E s0 ad ro gt v t  (by first | assumption | omega)) (Nat.le_of_ble_eq_true rfl) rfl hl.1 rfl (Nat.le_of_ble_eq_true rfl) dX0_runs_10) (fun v_1 H9 L9 hp I => ?_)
  have hop := hp
  refine lv_aload_n C.1 C.2.1 dX0_runs_13 rfl (lv_at hl 1 rfl) ?_
  refine xg_X0_119_0 C hK I dX0_runs_14 ?_
  refine lv_iload_n C.1 C.2.1 dX0_runs_17 rfl (lv_at hl 3 rfl) ?_
  refine xp_X0_176_12 C hK I dX0_runs_18 (fun H9 L9 I => ?_)
  refine lv_iconst (v := 0) C.1 C.2.1 dX0_runs_21 (by decide) ?_
  refine lv_istore (lv' := [(4, .int 0), (3, .int (nI (2 ^ n - 1))), (0, .ref (ad 0)), (1, .int (nI k)), (2, .int (nI cg))]) C.1 C.2.1 dX0_runs_22 hl (Nat.le_of_ble_eq_true rfl) rfl (fun ls hl => ?_)
  have hof0 : offX v (st2 v_1 12 4 (nI cg)) := hop.1.putA (by decide)
  have hDX0 : DX (st2 v_1 12 4 (nI cg)) n (2 ^ n - 1) (dOpen t) := (show DX _ _ _ _ from (DX_open (n := n) hop : DX _ n (2 ^ n - 1) (dOpen t)))
  have cut24 : ∀ (k9_24 : Nat) (i : Nat) (L : Nat) (v1 : Mem) (H9 : Heap) (L9 : List Loc) (ls : Array Slot), (n - i < k9_24) → (i ≤ n) → (L = (dIt t n k cg i).1) → (offX v v1) → (v1 12 4 = nI cg) → (DX v1 n L (dIt t n k cg i).2) → (∀ j, j < i → v1 14 j = nI (dP (dIt t n k cg i).2 j)) → GI E vwCl (wX ad) (rX ad ro (some (ad 2))) A9 s9.heap v1 H9 L9 → lv_has ls 5 [(4, .int (nI i)), (3, .int (nI L)), (0, .ref (ad 0)), (1, .int (nI k)), (2, .int (nI cg))] → W P9 l e9 (rmD 4 0 0) s9 m9 a9 b9 q9 c9 H9 L9 0 0 (MQ b9 (QV E vwCl (wX ad) (rX ad ro (some (ad 2))) (fun v9 => RnP t n k cg v v9) A9) a9 s9 0 0 A9) (F0 m9 24 ls []) := by
    intro k9_24
    induction k9_24 with
    | zero =>
      intro i L v1 H9 L9 ls h9_24
      exact absurd h9_24 (Nat.not_lt_zero _)
    | succ k9_24 ih24 =>
      intro i L v1 H9 L9 ls h9_24 hi eL hof hcg1 hDX hP I hl
      have hQ := dIt_ok (law := k) (cg := cg) hn6 hwt i hi
      have hMo := dIt_more (law := k) (cg := cg) hn6 hwt i hi
      have hK0 : dK (dIt t n k cg i).2 = i := hQ.2.2.2.1
      refine lv_iload C.1 C.2.1 dX0_runs_24 (lv_at hl 0 rfl) ?_
      refine lv_aload_n C.1 C.2.1 dX0_runs_26 rfl (lv_at hl 2 rfl) ?_
      refine xg_X0_49_0 C hK I (x := nI n) ((hof.1 4 (by decide) (by decide) (by decide)).trans hn) dX0_runs_27 ?_
      refine n_icmp_ge C (a := i) (b := n) rfl rfl (by omega) (by omega) dX0_runs_30 (tgt := 90) (by decide) (fun c30 => ?_) (fun c30 => ?_)
      · exact g_vret C hr9 hk9 I dX0_runs_90 (⟨hof, hcg1, fun j hj => by have e0 : i = n := (by omega); have z := hP j (by omega); rw [e0] at z; exact z, by have e0 : i = n := (by omega); have e1 : L = 0 := (by rw [eL]; exact hQ.none e0); rw [e1, e0] at hDX; exact hDX⟩)
      · have hsm : ∃ b, b < n ∧ L.testBit b = true := by rw [eL]; exact hQ.some (by omega)
        have hL64 : L < 64 := by rw [eL]; exact hQ.1
        have hpk := dPick_in (law := k) (cg := cg) (d := (dIt t n k cg i).2) hn6 hwt.1 hsm
        have hs6 := (hwt.2.2.2.2.2 (dPick t n k cg L (dIt t n k cg i).2) (by omega)).1
        have hfr := dFree_le (d := (dIt t n k cg i).2) hwt.1 hsm
        have hf2 := hQ.2.2.2.2.2.2.1
        have hfr2 : dFree t n L (dIt t n k cg i).2 < 100000 := by split at hfr <;> omega
        refine lv_aload_n C.1 C.2.1 dX0_runs_33 rfl (lv_at hl 2 rfl) ?_
        refine lv_aload_n C.1 C.2.1 dX0_runs_34 rfl (lv_at hl 2 rfl) ?_
        refine lv_iload_n C.1 C.2.1 dX0_runs_35 rfl (lv_at hl 1 rfl) ?_
        refine x_outI hA I (x_runV C hK hO hAo I 0 cv_X0_179 rfl (Nat.le_of_ble_eq_true rfl) rfl (met_X0_nextFree l E s0 ad ro v1 t n ((dIt t n k cg i).2) L (hof.nw hnw) hwt.1 ((hof.1 4 (by decide) (by decide) (by decide)).trans hn) (by first | assumption | omega) hL64 hDX.1 (by have := hQ.2.2.2.2.2.2.1; omega)) (Nat.le_of_ble_eq_true rfl) rfl hl.1 rfl (Nat.le_of_ble_eq_true rfl) dX0_runs_36) (fun x_2 v9 H9 L9 hp I => ?_)
        obtain ⟨hx_2, hv9⟩ := hp
        rw [hv9] at I; subst hx_2; clear hv9
        refine xp_X0_141_0 C hK I dX0_runs_39 (fun H9 L9 I => ?_)
        refine lv_aload_n C.1 C.2.1 dX0_runs_42 rfl (lv_at hl 2 rfl) ?_
        refine xg_X0_182_0 C hK I dX0_runs_43 ?_
        refine lv_iload C.1 C.2.1 dX0_runs_46 (lv_at hl 0 rfl) ?_
        refine lv_aload_n C.1 C.2.1 dX0_runs_48 rfl (lv_at hl 2 rfl) ?_
        refine lv_iload_n C.1 C.2.1 dX0_runs_49 rfl (lv_at hl 1 rfl) ?_
        refine x_gets C hO hAo I hZk q482 dX0_runs_50 ?_
        refine lv_iload_n C.1 C.2.1 dX0_runs_53 rfl (lv_at hl 3 rfl) ?_
        refine x_tq C hO hAo I hTk (k := k) (by omega) (by decide) (x := .ref (kq k)) rfl dX0_runs_54 ?_
        refine x_outI hA I (x_runV C hK hO hAo I 0 cv_X0_189 rfl (Nat.le_of_ble_eq_true rfl) rfl (met_X0_taken l E s0 ad ro (st2 v1 0 11 (nI (dFree t n L ((dIt t n k cg i).2)))) t n k cg (dSet (dIt t n k cg i).2 (dFree t n L (dIt t n k cg i).2)) (kq k) L ((hof.put0 (by decide)).nw hnw) hwt.1 ((hof.1 4 (by decide) (by decide) (by decide)).trans hn) (by first | assumption | omega) hL64 rfl (show dFree t n L (dIt t n k cg i).2 < 100000 by omega) hDX.2.1 hQ.2.2.2.2.2.2.2.1 hDX.2.2.1 hMo.2 hDX.2.2.2.1 (Nat.le_trans hMo.1 (by omega)) hcg1 hcg hk (hst.2.1 k hk) hwt (free_C hwt.1 hsm)) (Nat.le_of_ble_eq_true rfl) rfl hl.1 rfl (Nat.le_of_ble_eq_true rfl) dX0_runs_55) (fun x_4 v_3 H9 L9 hp I => ?_)
        obtain ⟨e55, hm2⟩ := hp
        obtain rfl : x_4 = nI (dPick t n k cg L (dIt t n k cg i).2) := e55
        have hDX2 : DX v_3 n L (dSet (dIt t n k cg i).2 (dFree t n L (dIt t n k cg i).2)) := (DX_set hDX).to13 hm2
        have hof2 : offX v v_3 := (hof.put0 (k := 11) (x := nI (dFree t n L (dIt t n k cg i).2)) (by decide)).tr ⟨fun z _ _ _ => by rw [hm2 0 (by decide)], fun j h0 h1 h2 h3 h4 h5 => hm2 j h2⟩
        have hcg2 : v_3 12 4 = nI cg := by rw [hm2 12 (by decide)]; exact hcg1
        have hP2 : ∀ j, j < i → v_3 14 j = nI (dP (dIt t n k cg i).2 j) := fun j hj => by rw [hm2 14 (by decide)]; exact hP j hj
        refine xs_14 C hK I (q := i) (ix_nI (by omega)) (by omega) dX0_runs_58 (fun H9 L9 I => ?_)
        refine lv_iload_n C.1 C.2.1 dX0_runs_59 rfl (lv_at hl 1 rfl) ?_
        refine lv_iconst (v := 1) C.1 C.2.1 dX0_runs_60 (by decide) ?_
        refine lv_aload_n C.1 C.2.1 dX0_runs_61 rfl (lv_at hl 2 rfl) ?_
        refine xg_X0_182_0 C hK I dX0_runs_62 ?_
        refine lv_iload C.1 C.2.1 dX0_runs_65 (lv_at hl 0 rfl) ?_
        refine xl_14 C hK I (q := i) (ix_nI (by omega)) (by omega) (x := nI (dPick t n k cg L (dIt t n k cg i).2)) (st2_same _ _ _ _) dX0_runs_67 ?_
        refine e_ishl C (z := nI (2 ^ (dPick t n k cg L (dIt t n k cg i).2))) (shl_1 (by have z0 := hT n; have z1 := hpk.1; omega)) dX0_runs_68 ?_
        refine lv_iconst (v := (-1)) C.1 C.2.1 dX0_runs_69 (by decide) ?_
        refine lv_ixor C.1 C.2.1 dX0_runs_70 ?_
        refine e_iand C (z := nI (clr L (dPick t n k cg L (dIt t n k cg i).2))) (clr_ok2 (by omega) (by have z0 := hT n; have z1 := hpk.1; omega)) dX0_runs_71 ?_
        refine lv_istore_n (lv' := [(3, .int (nI (clr L (dPick t n k cg L (dIt t n k cg i).2)))), (4, .int (nI i)), (0, .ref (ad 0)), (1, .int (nI k)), (2, .int (nI cg))]) C.1 C.2.1 dX0_runs_72 rfl hl (Nat.le_of_ble_eq_true rfl) rfl (fun ls hl => ?_)
        refine lv_aload_n C.1 C.2.1 dX0_runs_73 rfl (lv_at hl 2 rfl) ?_
        refine lv_aload_n C.1 C.2.1 dX0_runs_74 rfl (lv_at hl 2 rfl) ?_
        refine xg_X0_182_0 C hK I dX0_runs_75 ?_
        refine lv_iload C.1 C.2.1 dX0_runs_78 (lv_at hl 1 rfl) ?_
        refine xl_14 C hK I (q := i) (ix_nI (by omega)) (by omega) (x := nI (dPick t n k cg L (dIt t n k cg i).2)) (st2_same _ _ _ _) dX0_runs_80 ?_
        refine x_outV hA I (x_runV C hK hO hAo I 0 cv_X0_193 rfl (Nat.le_of_ble_eq_true rfl) rfl (met_X0_goesThrough l E s0 ad ro (st2 v_3 14 i (nI (dPick t n k cg L (dIt t n k cg i).2))) t (dSet (dIt t n k cg i).2 (dFree t n L (dIt t n k cg i).2)) (dPick t n k cg L (dIt t n k cg i).2) ((hof2.putA (by decide)).nw hnw) hwt.1 (by omega) hs6 hDX2.1 (show dFree t n L (dIt t n k cg i).2 < 100000 by omega) hDX2.2.1 hQ.2.2.2.2.2.2.2.1 hDX2.2.2.1 hMo.2 hDX2.2.2.2.1 hDX2.2.2.2.2.1 hDX2.2.2.2.2.2.1) (Nat.le_of_ble_eq_true rfl) rfl hl.1 rfl (Nat.le_of_ble_eq_true rfl) dX0_runs_81) (fun v_5 H9 L9 hp I => ?_)
        have hg := hp
        have hDX3 := DX_let hn6 hL64 (by omega) hs6 (hDX2.put14 (k := i) (x := nI (dPick t n k cg L (dIt t n k cg i).2))) hg
        have hof3 : offX v v_5 := (hof2.putA (j := 14) (k := i) (x := nI (dPick t n k cg L (dIt t n k cg i).2)) (by decide)).tr hg.1
        have hcg3 : v_5 12 4 = nI cg := by rw [hg.2.1]; exact hcg2
        have hP3 : ∀ j, j < i + 1 → v_5 14 j = nI (dP (dIt t n k cg (i + 1)).2 j) := fun j hj => by
          rw [hg.2.2.2.1, eL]
          show _ = nI (up (dP (dIt t n k cg i).2) (dK (dIt t n k cg i).2) (dPick t n k cg (dIt t n k cg i).1 (dIt t n k cg i).2) j)
          unfold up
          by_cases e0 : j = i
          · rw [if_pos (by rw [hK0]; exact e0), e0, st2_same]
          · rw [if_neg (by rw [hK0]; exact e0), st2_at _ _ _ e0]; exact hP2 j (by omega)
        clear hp
        refine lv_iinc (v := nI (i + 1)) (lv' := [(4, .int (nI (i + 1))), (3, .int (nI (clr L (dPick t n k cg L (dIt t n k cg i).2)))), (0, .ref (ad 0)), (1, .int (nI k)), (2, .int (nI cg))]) C.1 C.2.1 dX0_runs_84 hl (k := 1) rfl (nI_add _ 1) (Nat.le_of_ble_eq_true rfl) rfl (fun ls hl => ?_)
        refine lv_goto (tgt := 24) C.1 C.2.1 dX0_runs_87 (by decide) ?_
        exact ih24 (i + 1) (clr L (dPick t n k cg L (dIt t n k cg i).2)) v_5 _ _ _ (by omega) (by first | assumption | omega) (by rw [eL]; rfl) hof3 hcg3 (by rw [eL] at hDX3 ⊢; exact hDX3) hP3 I (lv_sub hl [0, 1, 2, 3, 4] rfl)
  exact cut24 _ 0 (2 ^ n - 1) (st2 v_1 12 4 (nI cg)) _ _ _ (Nat.lt_succ_self _) (by first | assumption | omega) rfl hof0 rfl hDX0 (fun j hj => absurd hj (Nat.not_lt_zero j)) I (lv_sub hl [0, 1, 2, 3, 4] rfl)
set_option maxHeartbeats 4000000 in
theorem met_X0_today (l : Launch) (E : GEnv) (s0 : State) (ad : Nat → Nat) (ro : Nat → Option Nat) (gt : Option Nat) (v : Mem) (t : Nat → Nat) (n : Nat) (kq : Nat → Nat) (hnw : NwV v t) (hwt : WT t) (hn : v 0 4 = nI n) (hn6 : n ≤ 6) (hst : StX s0 kq) : MxV l yX0_today cX0_today 1 none 5 s0 E vwCl tlA (wX ad) (rX ad ro gt) (rX ad ro (some (ad 2))) [.ref (ad 0)] v (fun v9 => RnP t n (t 3) 0 v v9) := by
  refine MetX.of RX0 [(0, .ref (ad 0))] (by decide) rfl rfl (Nat.le_of_ble_eq_true rfl) ?_
  intro P9 e9 s9 m9 a9 b9 q9 c9 A9 C hK hr9 hk9 hA hO hAo I ls hl
  refine lv_aload_n C.1 C.2.1 dX0_today_0 rfl (lv_at hl 0 rfl) ?_
  refine lv_aload_n C.1 C.2.1 dX0_today_1 rfl (lv_at hl 0 rfl) ?_
  refine xg_X0_33_0 C hK I dX0_today_2 ?_
  refine xg_X0_79_2 C hK I dX0_today_5 ?_
  refine lv_iconst (v := 3) C.1 C.2.1 dX0_today_8 (by decide) ?_
  refine xl_3 C hK I (q := 3) ⟨by decide, rfl⟩ (by decide) (x := nI (t 3)) (hnw.1 3 (by omega)) dX0_today_9 ?_
  refine lv_iconst (v := 0) C.1 C.2.1 dX0_today_10 (by decide) ?_
  refine x_outV hA I (x_runV C hK hO hAo I 0 cv_X0_197 rfl (Nat.le_of_ble_eq_true rfl) rfl (met_X0_runs l E s0 ad ro gt v t n kq (t 3) 0 (by first | assumption | omega) (by first | assumption | omega) (by first | assumption | omega) (by first | assumption | omega) (by have := hwt.2.2.2.1; omega) (by decide) (by first | assumption | omega)) (Nat.le_of_ble_eq_true rfl) rfl hl.1 rfl (Nat.le_of_ble_eq_true rfl) dX0_today_11) (fun v_1 H9 L9 hp I => ?_)
  have hrn := hp
  exact g_vret C hr9 hk9 I dX0_today_14 (hrn)
