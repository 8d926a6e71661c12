/-! the statics of LockTurns, that nobody writes -/
set_option maxRecDepth 100000
def A0 (s0 : State) : Nat → Prop := fun q => s0.heap.size ≤ q
def kindR (k : Nat) : String := match k with | 0 => RX10 | 1 => RX8 | 2 => RX12 | 3 => RX9 | _ => RX11
def leastN (k : Nat) : Nat := if k = 0 then 1 else 0
def mostN (k : Nat) : Nat := if k = 2 ∨ k = 5 then 1 else if k = 3 then 4 else 9
/-- the statics: the laws' kinds, the bounds of what is set -/
def StX (s0 : State) (kq : Nat → Nat) : Prop :=
  (∃ tk, va_Z "LockTurns" "LAW_KINDS" "[LLockTurns$AtGate;" (.ref tk) (A0 s0) s0 s0.heap ∧ va_T (.object "LockTurns$AtGate") tk 5 (fun k => .ref (kq k)) (A0 s0) s0 s0.heap) ∧ (∀ k, k < 5 → OldO s0 (kindR k) (kq k)) ∧
  (∃ tl, va_Z "LockTurns" "LEAST" "[I" (.ref tl) (A0 s0) s0 s0.heap ∧ va_T .int tl 6 (fun k => .int (nI (leastN k))) (A0 s0) s0 s0.heap) ∧
  ∃ tm, va_Z "LockTurns" "MOST" "[I" (.ref tm) (A0 s0) s0 s0.heap ∧ va_T .int tm 6 (fun k => .int (nI (mostN k))) (A0 s0) s0 s0.heap
section GZ
variable {p : Program} {l : Launch} {e : Env} {R : Room} {s : State} {m : MethodId} {args : Array Value} {below : List Frame} {meth : Method} {c : Code} {H : Heap} {locs : List Loc} {cells slots : Nat} {Q : State → Prop}
variable {cc : ByteArray} {pc nL : Nat} {ls : Array Slot} {rest : List Value} {s0 : State} {E : GEnv} {cl : List vw_C} {tl : List FieldType} {A : Nat → Prop} {w : GW} {r : Rfm} {v : Mem} {own : String}
theorem OX.z (O : OX s0 w s) (hAo : ∀ q, A q → s0.heap.size ≤ q) {Cn nm ds : String} {x : Value} (h : va_Z Cn nm ds x (A0 s0) s0 s0.heap) : va_Z Cn nm ds x A s s.heap :=
  ((h.moved O.1).kept (fun a ha _ => O.2.1 a ha)).narrow hAo
theorem OX.t (O : OX s0 w s) (hAo : ∀ q, A q → s0.heap.size ≤ q) {ty : FieldType} {t N : Nat} {f : Nat → Value} (h : va_T ty t N f (A0 s0) s0 s0.heap) : va_T ty t N f A s s.heap :=
  ((h.moved O.1).kept (fun a ha _ => O.2.1 a ha)).narrow hAo
theorem x_gets (C : CallFix p m c cc nL s args lw_all own) (O : OX s0 w s) (hAo : ∀ q, A q → s0.heap.size ≤ q) (I : GI E cl w r A s.heap v H locs) {Cn nm ds : String} {x : Value} {idx : Nat} (hZ : va_Z Cn nm ds x (A0 s0) s0 s0.heap) (hl : Cond.fieldLink own idx Cn nm ds ∈ lw_all) (dec : decode cc pc = .ok (.getstatic idx, 3))
    (kk : W p l e R s m args below meth c H locs cells slots Q (F0 m (pc + 3) ls (x :: rest))) : W p l e R s m args below meth c H locs cells slots Q (F0 m pc ls rest) :=
  va_gets C.1 C.2.1 (O.z hAo hZ) I.2.2 C.2.2.2.1 (C.2.2.2.2 _ hl) (fun _ h => h) dec kk
theorem x_getsN (C : CallFix p m c cc nL s args lw_all own) (hK : KK E cl tl s) (O : OX s0 w s) (hAo : ∀ q, A q → s0.heap.size ≤ q) (I : GI E cl w r A s.heap v H locs) {Cn nm ds host : String} {x : Value} {idx : Nat} (hZ : va_Z Cn nm ds x (A0 s0) s0 s0.heap) (hl : Cond.fieldLinkNest own idx Cn nm ds host ∈ lw_nest) (dec : decode cc pc = .ok (.getstatic idx, 3))
    (kk : W p l e R s m args below meth c H locs cells slots Q (F0 m (pc + 3) ls (x :: rest))) : W p l e R s m args below meth c H locs cells slots Q (F0 m pc ls rest) :=
  va_getsN C.1 C.2.1 (O.z hAo hZ) I.2.2 C.2.2.2.1 (va_Nw.use rfl (hK.2 _ hl)) (fun _ h => h) dec kk
theorem in_nI {k N : Nat} (hk : k < N) (hN : N ≤ 1000) : vp_in (nI k) N := by
  have h := ix_nI (q := k) (by omega)
  rintro (q | q)
  · exact absurd q (Int32.not_lt.mpr h.1)
  · rw [h.2] at q; omega
theorem x_tq (C : CallFix p m c cc nL s args lw_all own) (O : OX s0 w s) (hAo : ∀ q, A q → s0.heap.size ≤ q) (I : GI E cl w r A s.heap v H locs) {Cn : String} {t N k : Nat} {f : Nat → Value} {x : Value} (hT : va_T (.object Cn) t N f (A0 s0) s0 s0.heap) (hk : k < N) (hN : N ≤ 1000) (hv : f k = x) (dec : decode cc pc = .ok (.aaload, 1))
    (kk : W p l e R s m args below meth c H locs cells slots Q (F0 m (pc + 1) ls (x :: rest))) : W p l e R s m args below meth c H locs cells slots Q (F0 m pc ls (.int (nI k) :: .ref t :: rest)) :=
  vb_tq C.1 C.2.1 (O.t hAo hT) I.2.2 (in_nI hk hN) (by rw [(ix_nI (q := k) (by omega)).2]; exact hv) dec kk
theorem x_ti (C : CallFix p m c cc nL s args lw_all own) (O : OX s0 w s) (hAo : ∀ q, A q → s0.heap.size ≤ q) (I : GI E cl w r A s.heap v H locs) {t N k : Nat} {f : Nat → Value} {x : Value} (hT : va_T .int t N f (A0 s0) s0 s0.heap) (hk : k < N) (hN : N ≤ 1000) (hv : f k = x) (dec : decode cc pc = .ok (.iaload, 1))
    (kk : W p l e R s m args below meth c H locs cells slots Q (F0 m (pc + 1) ls (x :: rest))) : W p l e R s m args below meth c H locs cells slots Q (F0 m pc ls (.int (nI k) :: .ref t :: rest)) :=
  va_ti C.1 C.2.1 (O.t hAo hT) I.2.2 (in_nI hk hN) (by rw [(ix_nI (q := k) (by omega)).2]; exact hv) dec kk
theorem x_tlen (C : CallFix p m c cc nL s args lw_all own) (O : OX s0 w s) (hAo : ∀ q, A q → s0.heap.size ≤ q) (I : GI E cl w r A s.heap v H locs) {ty : FieldType} {t N : Nat} {f : Nat → Value} (hT : va_T ty t N f (A0 s0) s0 s0.heap) (dec : decode cc pc = .ok (.arraylength, 1))
    (kk : W p l e R s m args below meth c H locs cells slots Q (F0 m (pc + 1) ls (.int (nI N) :: rest))) : W p l e R s m args below meth c H locs cells slots Q (F0 m pc ls (.ref t :: rest)) :=
  va_tlen C.1 C.2.1 (O.t hAo hT) I.2.2 rfl dec kk
end GZ
/-- more of a day -/
theorem dIt_more {t : Nat → Nat} {n law cg : Nat} (hn : n ≤ 6) (hw : WT t) : ∀ i, i ≤ n → dRo (dIt t n law cg i).2 ≤ i ∧ dLa (dIt t n law cg i).2 ≤ 2
  | 0, _ => ⟨Nat.le_refl _, Nat.le_refl _⟩
  | i + 1, hi => by
    have ih := dIt_more (law := law) (cg := cg) hn hw i (by omega)
    have hQ := dIt_ok (law := law) (cg := cg) hn hw i (by omega)
    have hp := dPick_in (law := law) (cg := cg) (d := (dIt t n law cg i).2) hn hw.1 (hQ.some (by omega))
    have hs := (hw.2.2.2.2.2 (dPick t n law cg (dIt t n law cg i).1 (dIt t n law cg i).2) (by omega)).1
    refine ⟨?_, Nat.le_trans hs (by decide)⟩
    show (if _ = _ then dRo (dIt t n law cg i).2 + 1 else 1) ≤ i + 1
    split <;> omega
/-- what a day leaves in LockTurns -/
def RnP (t : Nat → Nat) (n k cg : Nat) (v v' : Mem) : Prop := offX v v' ∧ v' 12 4 = nI cg ∧ (∀ i, i < n → v' 14 i = nI (dP (day t n k cg) i)) ∧ DX v' n 0 (day t n k cg)
theorem DX.put14 {v : Mem} {n L k : Nat} {x : Int32} {d : Day} (h : DX v n L d) : DX (st2 v 14 k x) n L d := h
theorem DX.to13 {v v' : Mem} {n L : Nat} {d : Day} (h : DX v n L d) (g : ∀ j, j ≠ 13 → v' j = v j) : DX v' n L d := by
  obtain ⟨h1, h2, h3, h4, h5, h6, h7⟩ := h
  have e0 := g 0 (by decide); have e12 := g 12 (by decide); have e15 := g 15 (by decide); have e16 := g 16 (by decide)
  exact ⟨by rw [e0]; exact h1, by rw [e12]; exact h2, by rw [e12]; exact h3, by rw [e12]; exact h4, by rw [e0]; exact h5, by rw [e0]; exact h6, fun b hb hL => by rw [e15, e16]; exact h7 b hb hL⟩
