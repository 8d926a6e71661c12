/-! CONTRACTS beside a start s0 whose old cells stay (statics): MetX; references may change -/
set_option maxRecDepth 100000
/-- the run began at s0: its old cells are as they were, the world is new -/
def OX (s0 : State) (w : GW) (U : State) : Prop := s0.vm.Alike U.vm ∧ (∀ q, q < s0.heap.size → U.heap[q]? = s0.heap[q]?) ∧ s0.heap.size ≤ U.heap.size ∧ ∀ j, j < w.1 → s0.heap.size ≤ w.2.2 j
def GPreX (s0 : State) (E : GEnv) (cl : List vw_C) (tl : List FieldType) (w : GW) (r : Rfm) (v : Mem) (sz : Nat) (U : State) : Prop := GPre E cl tl w r v sz U ∧ OX s0 w U
def MetX (l : Launch) (y : MethodName) (code : ByteArray) (maxL : Nat) (ret : Option FieldType) (d : Nat) (s0 : State) (E : GEnv) (cl : List vw_C) (tl : List FieldType) (w : GW) (r : Rfm) (as : List Value) (v : Mem) (Qc : (Nat → Prop) → Array Value → State → Outcome → State → Prop) : Prop :=
  ∀ sz, Met l y (ws_ y code maxL ret) (rmD d 0 0) (va_Pc as (GPreX s0 E cl tl w r v sz)) (Qc (gA w sz)) 0 0 (gA w sz)
abbrev MxI (l : Launch) (y : MethodName) (code : ByteArray) (maxL : Nat) (ret : Option FieldType) (d : Nat) (s0 : State) (E : GEnv) (cl : List vw_C) (tl : List FieldType) (w : GW) (r r' : Rfm) (as : List Value) (v : Mem) (post : Int32 → Mem → Prop) : Prop := MetX l y code maxL ret d s0 E cl tl w r as v (QI E cl w r' post)
abbrev MxL (l : Launch) (y : MethodName) (code : ByteArray) (maxL : Nat) (ret : Option FieldType) (d : Nat) (s0 : State) (E : GEnv) (cl : List vw_C) (tl : List FieldType) (w : GW) (r r' : Rfm) (as : List Value) (v : Mem) (post : Int64 → Mem → Prop) : Prop := MetX l y code maxL ret d s0 E cl tl w r as v (QL E cl w r' post)
abbrev MxV (l : Launch) (y : MethodName) (code : ByteArray) (maxL : Nat) (ret : Option FieldType) (d : Nat) (s0 : State) (E : GEnv) (cl : List vw_C) (tl : List FieldType) (w : GW) (r r' : Rfm) (as : List Value) (v : Mem) (post : Mem → Prop) : Prop := MetX l y code maxL ret d s0 E cl tl w r as v (QV E cl w r' post)
theorem MetX.of {l : Launch} {y : MethodName} {code : ByteArray} {maxL : Nat} {ret : Option FieldType} {d : Nat} {s0 : State} {E : GEnv} {cl : List vw_C} {tl : List FieldType} {w : GW} {r : Rfm} {as : List Value} {v : Mem} {Qc : (Nat → Prop) → Array Value → State → Outcome → State → Prop} (own : String) (lv : List (Nat × Value)) (hy : plainName y.cls = true) (ho : y.cls = own) (hlv : lv_args 0 as = lv) (hlen : (lg_sl as).length ≤ maxL)
    (body : ∀ (p : Program) (e : Env) (s : State) (m : MethodId) (args : Array Value) (below : List Frame) (meth : Method) (c : Code) (A : Nat → Prop), CallFix p m c code maxL s args lw_all own → KK E cl tl s → meth.sig.returnType = ret → meth.locks = false → (∀ q, s.heap.size ≤ q → A q) → OX s0 w s → (∀ q, A q → s0.heap.size ≤ q) → GI E cl w r A s.heap v s.heap [] → ∀ ls : Array Slot, lv_has ls maxL lv →
      W p l e (rmD d 0 0) s m args below meth c s.heap [] 0 0 (MQ below (Qc A) args s 0 0 A) (F0 m 0 ls [])) : MetX l y code maxL ret d s0 E cl tl w r as v Qc := by
  intro sz
  subst hlv
  refine Met.ofW (cc := code) (maxL := maxL) (ret := ret) hy rfl ?_
  intro p e s m args below meth c s₁ B hml hv
  obtain ⟨rfl, ⟨hsz, hP, hD0, hK⟩, hO⟩ := hv
  have hts := atoms_spec (ws := ws_ y code maxL ret) B.pre
  have hts : ∀ w ∈ lw_all, w.before _ s = true := fun w h => hts w (List.mem_cons_of_mem _ h)
  subst hsz
  have hl := lv_entry as (n := maxL) hlen
  rw [lg_entry_eq]
  exact body p e s m _ below meth c (gA w s.heap.size) ⟨B.exec, B.bytes, hml, ho ▸ findClass_of_methodNamed B.named, hts⟩ hK B.returns B.notSynchronized (fun q h => Or.inr h) hO (fun q h => by
    rcases h with ⟨j, hj, rfl⟩ | h
    · exact hO.2.2.2 j hj
    · exact Nat.le_trans hO.2.2.1 h) ⟨hP, gD_re hD0 (fun j h _ => Or.inl ⟨j, h, rfl⟩), va_S.rf⟩ _ hl
section GX
variable {p : Program} {l : Launch} {e : Env} {R : Room} {s : State} {m : MethodId} {args : Array Value} {below : List Frame} {meth : Method} {c : Code} {H : Heap} {locs : List Loc} {cells slots : Nat} {Q : State → Prop}
variable {cc : ByteArray} {pc nL : Nat} {ls : Array Slot} {rest st0 : List Value} {s0 : State} {E : GEnv} {cl : List vw_C} {tl : List FieldType} {A : Nat → Prop} {w : GW} {r r' : Rfm} {v : Mem} {own : String}
theorem GPreX.blind {sz : Nat} {as : List Value} : FrameBlind (va_Pc as (GPreX s0 E cl tl w r v sz)) := by
  intro a U g mk q
  obtain ⟨q0, ⟨q1, q2, q3, q4⟩, q5⟩ := q
  exact ⟨q0, ⟨q1, q2, q3, q4.same rfl⟩, q5⟩
theorem OX.here (O : OX s0 w s) (hAo : ∀ q, A q → s0.heap.size ≤ q) {locs : List Loc} (hS : va_S A s.heap H locs) (U : State) (hU : U.heap = H) (hW : s.WarmedH U.vm) : OX s0 w U := by
  refine ⟨O.1.trans hW.alike, fun q hq => ?_, ?_, O.2.2.2⟩
  · rw [hU, hS.2.1 q (Nat.lt_of_lt_of_le hq O.2.2.1) (fun h => by have := hAo q h; omega)]
    exact O.2.1 q hq
  · rw [hU]; exact Nat.le_trans O.2.2.1 hS.1
theorem GPreX.here (hK : KK E cl tl s) (O : OX s0 w s) (hAo : ∀ q, A q → s0.heap.size ≤ q) (I : GI E cl w r A s.heap v H locs) {as : List Value} (U : State) (hU : U.heap = H) (hW : s.WarmedH U.vm) : va_Pc as (GPreX s0 E cl tl w r v H.size) as.toArray U :=
  ⟨rfl, ⟨by rw [hU], by rw [hU]; exact I.1, gD_re I.2.1 (fun _ _ _ => trivial), hK.warm hW⟩, O.here hAo I.2.2 U hU hW⟩
variable {y : MethodName} {code : ByteArray} {maxL d D idx n : Nat} {ret : Option FieldType} {As : List Value} {Cn : String}
theorem x_runV (C : CallFix p m c cc nL s args lw_all own) (hK : KK E cl tl s) (O : OX s0 w s) (hAo : ∀ q, A q → s0.heap.size ≤ q) (I : GI E cl w r A s.heap v H locs) {Qc : (Nat → Prop) → Array Value → State → Outcome → State → Prop} (j : Nat) (cv : CV own idx Cn y code maxL ret n) {ci N : Nat} {b : Nat → Bool} (hj : w.2.1 j = .inl (ci, N, b)) (hjn : j < w.1) {T : u_T} {N' : Nat} (hc : cl[ci]? = some (Cn, T, N')) (M : MetX l y code maxL ret d s0 E cl tl w r (.ref (w.2.2 j) :: As) v Qc) (hd : d + 1 ≤ D) (hAs : As.length = n) (hl : ls.size = nL) (hst : st0 = As.reverse ++ .ref (w.2.2 j) :: rest) (hw : (rest.map fun v => v.category).sum ≤ 8) (dec : decode cc pc = .ok (.invokevirtual idx, 3)) :
    va_Run p l e (rmD D 0 0) s m args below meth c H locs 0 0 0 0 (F0 m pc ls st0) rest (Qc (gA w H.size) (Value.ref (w.2.2 j) :: As).toArray) (gA w H.size) := by
  have hcw : CallW (rmD D 0 0) s args own Cn idx y code maxL ret (ws_ y code maxL ret) (rmD d 0 0) 0 0 n := cwV n C.2.2.2.2 cv.1 rfl rfl rfl cv.2.1 ⟨hd, by have := cv.2.2; simp only [rmD]; omega⟩
  exact va_runV C (M H.size) hcw ⟨GPreX.blind, g_recv hK I hj hjn hc, fun U hU hW => GPreX.here hK O hAo I U hU hW⟩ rfl hAs hl hst (by simpa [JFrame.monitorRoom] using hw) dec ⟨Nat.zero_le _, Nat.zero_le _⟩
theorem x_runS (C : CallFix p m c cc nL s args lw_all own) (hK : KK E cl tl s) (O : OX s0 w s) (hAo : ∀ q, A q → s0.heap.size ≤ q) (I : GI E cl w r A s.heap v H locs) {Qc : (Nat → Prop) → Array Value → State → Outcome → State → Prop} (cv : CSt own idx y code maxL ret n) (M : MetX l y code maxL ret d s0 E cl tl w r As v Qc) (hd : d + 1 ≤ D) (hAs : As.length = n) (hl : ls.size = nL) (hst : st0 = As.reverse ++ rest) (hw : (rest.map fun v => v.category).sum ≤ 8) (dec : decode cc pc = .ok (.invokestatic idx, 3)) :
    va_Run p l e (rmD D 0 0) s m args below meth c H locs 0 0 0 0 (F0 m pc ls st0) rest (Qc (gA w H.size) As.toArray) (gA w H.size) := by
  have hcw := va_cwS (R := rmD D 0 0) (rm := rmD d 0 0) n C.2.2.2.2 cv.1 rfl rfl rfl cv.2.1 ⟨hd, by have := cv.2.2; simp only [rmD]; omega⟩
  exact va_runS C (M H.size) hcw ⟨GPreX.blind, fun U hU hW => GPreX.here hK O hAo I U hU hW⟩ rfl hAs hl hst (by simpa [JFrame.monitorRoom] using hw) dec ⟨Nat.zero_le _, Nat.zero_le _⟩
theorem GI.afterR (I : GI E cl w r A s.heap v H locs) {v' : Mem} {H' : Heap} {locs' : List Loc} (hP : va_P E.1 cl (gw E w r' v') H') (hS : va_S A s.heap H' locs') : GI E cl w r' A s.heap v' H' locs' :=
  ⟨hP, gD_re I.2.1 (fun _ _ h => h), hS⟩
theorem x_outI (hA : ∀ q, s.heap.size ≤ q → A q) (I : GI E cl w r A s.heap v H locs) {a : Array Value} {post : Int32 → Mem → Prop} (hr : va_Run p l e R s m args below meth c H locs 0 0 0 0 (F0 m pc ls st0) rest (QI E cl w r' post (gA w H.size) a) (gA w H.size))
    (kk : ∀ (x : Int32) (v' : Mem) (H1 : Heap) (locs1 : List Loc), post x v' → GI E cl w r' A s.heap v' H1 locs1 → W p l e R s m args below meth c H1 locs1 0 0 Q (F0 m (pc + 3) ls (.int x :: rest))) : W p l e R s m args below meth c H locs 0 0 Q (F0 m pc ls st0) :=
  va_calli hr I.2.2 (fun q _ h => gA_in I hA q h) (gA_in I hA) (fun x v' t H1 locs1 ht _ hp hB _ _ hS => kk x v' H1 locs1 hp (I.afterR (by rw [← ht]; exact hB) hS))
theorem x_outL (hA : ∀ q, s.heap.size ≤ q → A q) (I : GI E cl w r A s.heap v H locs) {a : Array Value} {post : Int64 → Mem → Prop} (hr : va_Run p l e R s m args below meth c H locs 0 0 0 0 (F0 m pc ls st0) rest (QL E cl w r' post (gA w H.size) a) (gA w H.size))
    (kk : ∀ (x : Int64) (v' : Mem) (H1 : Heap) (locs1 : List Loc), post x v' → GI E cl w r' A s.heap v' H1 locs1 → W p l e R s m args below meth c H1 locs1 0 0 Q (F0 m (pc + 3) ls (.long x :: rest))) : W p l e R s m args below meth c H locs 0 0 Q (F0 m pc ls st0) :=
  va_calll hr I.2.2 (fun q _ h => gA_in I hA q h) (gA_in I hA) (fun x v' t H1 locs1 ht _ hp hB _ _ hS => kk x v' H1 locs1 hp (I.afterR (by rw [← ht]; exact hB) hS))
theorem x_outV (hA : ∀ q, s.heap.size ≤ q → A q) (I : GI E cl w r A s.heap v H locs) {a : Array Value} {post : Mem → Prop} (hr : va_Run p l e R s m args below meth c H locs 0 0 0 0 (F0 m pc ls st0) rest (QV E cl w r' post (gA w H.size) a) (gA w H.size))
    (kk : ∀ (v' : Mem) (H1 : Heap) (locs1 : List Loc), post v' → GI E cl w r' A s.heap v' H1 locs1 → W p l e R s m args below meth c H1 locs1 0 0 Q (F0 m (pc + 3) ls rest)) : W p l e R s m args below meth c H locs 0 0 Q (F0 m pc ls st0) :=
  va_callv hr I.2.2 (fun q _ h => gA_in I hA q h) (gA_in I hA) (fun v' t H1 locs1 ht _ hp hB _ _ hS => kk v' H1 locs1 hp (I.afterR (by rw [← ht]; exact hB) hS))
end GX
