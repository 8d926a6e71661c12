/-! CONTRACTS over own worlds, their start, their ends, calls in the same world -/
set_option maxRecDepth 100000
/-- the room of a method whose calls go d deep, and that makes mc cells of ms slots -/
def rmD (d mc ms : Nat) : Room := { frames := d, cells := mc, slots := ms, locals := 40 * d }
def GPre (E : GEnv) (cl : List vw_C) (tl : List FieldType) (w : GW) (r : Rfm) (v : Mem) (sz : Nat) (U : State) : Prop := U.heap.size = sz ∧ va_P E.1 cl (gw E w r v) U.heap ∧ va_D (fun _ => True) (gw E w r v) ∧ KK E cl tl U
/-- the world behind a method: its memories -/
def GB (E : GEnv) (cl : List vw_C) (w : GW) (r : Rfm) (v' : Mem) (t : State) : Prop := va_P E.1 cl (gw E w r v') t.heap
theorem GB.of {E : GEnv} {cl : List vw_C} {w : GW} {r : Rfm} {v' : Mem} {t : State} {H : Heap} (ht : t.heap = H) (h : va_P E.1 cl (gw E w r v') H) : GB E cl w r v' t := by
  unfold GB
  rw [ht]
  exact h
abbrev QI (E : GEnv) (cl : List vw_C) (w : GW) (r : Rfm) (post : Int32 → Mem → Prop) (A : Nat → Prop) := va_Qi post (GB E cl w r) A
abbrev QV (E : GEnv) (cl : List vw_C) (w : GW) (r : Rfm) (post : Mem → Prop) (A : Nat → Prop) := va_Qv post (GB E cl w r) A
abbrev QL (E : GEnv) (cl : List vw_C) (w : GW) (r : Rfm) (post : Int64 → Mem → Prop) (A : Nat → Prop) := va_Ql post (GB E cl w r) A
/-- a contract: from the arguments as and the memory v, an int and a memory with post -/
def MetG (l : Launch) (y : MethodName) (code : ByteArray) (maxL : Nat) (ret : Option FieldType) (d : Nat) (E : GEnv) (cl : List vw_C) (tl : List FieldType) (w : GW) (r : Rfm) (as : List Value) (v : Mem) (Qc : (Nat → Prop) → Array Value → State → Outcome → State → Prop) : Prop :=
  ∀ sz, Met l y (ws_ y code maxL ret) (rmD d 0 0) (va_Pc as (GPre E cl tl w r v sz)) (Qc (gA w sz)) 0 0 (gA w sz)
abbrev MetI (l : Launch) (y : MethodName) (code : ByteArray) (maxL : Nat) (ret : Option FieldType) (d : Nat) (E : GEnv) (cl : List vw_C) (tl : List FieldType) (w : GW) (r : Rfm) (as : List Value) (v : Mem) (post : Int32 → Mem → Prop) : Prop := MetG l y code maxL ret d E cl tl w r as v (QI E cl w r post)
abbrev MetL (l : Launch) (y : MethodName) (code : ByteArray) (maxL : Nat) (ret : Option FieldType) (d : Nat) (E : GEnv) (cl : List vw_C) (tl : List FieldType) (w : GW) (r : Rfm) (as : List Value) (v : Mem) (post : Int64 → Mem → Prop) : Prop := MetG l y code maxL ret d E cl tl w r as v (QL E cl w r post)
abbrev MetV (l : Launch) (y : MethodName) (code : ByteArray) (maxL : Nat) (ret : Option FieldType) (d : Nat) (E : GEnv) (cl : List vw_C) (tl : List FieldType) (w : GW) (r : Rfm) (as : List Value) (v : Mem) (post : Mem → Prop) : Prop := MetG l y code maxL ret d E cl tl w r as v (QV E cl w r post)
theorem MetG.of {l : Launch} {y : MethodName} {code : ByteArray} {maxL : Nat} {ret : Option FieldType} {d : Nat} {E : GEnv} {cl : List vw_C} {tl : List FieldType} {w : GW} {r : Rfm} {as : List Value} {v : Mem} {Qc : (Nat → Prop) → Array Value → State → Outcome → State → Prop} (own : String) (lv : List (Nat × Value)) (hy : plainName y.cls = true) (ho : y.cls = own) (hlv : lv_args 0 as = lv) (hlen : (lg_sl as).length ≤ maxL)
    (body : ∀ (p : Program) (e : Env) (s : State) (m : MethodId) (args : Array Value) (below : List Frame) (meth : Method) (c : Code) (A : Nat → Prop), CallFix p m c code maxL s args lw_all own → KK E cl tl s → meth.sig.returnType = ret → meth.locks = false → (∀ q, s.heap.size ≤ q → A q) → GI E cl w r A s.heap v s.heap [] → ∀ ls : Array Slot, lv_has ls maxL lv →
      W p l e (rmD d 0 0) s m args below meth c s.heap [] 0 0 (MQ below (Qc A) args s 0 0 A) (F0 m 0 ls [])) : MetG l y code maxL ret d E cl tl w r as v Qc := by
  intro sz
  subst hlv
  refine Met.ofW (cc := code) (maxL := maxL) (ret := ret) hy rfl ?_
  intro p e s m args below meth c s₁ B hml hv
  obtain ⟨rfl, hsz, hP, hD0, hK⟩ := hv
  have hts := atoms_spec (ws := ws_ y code maxL ret) B.pre
  have hts : ∀ w ∈ lw_all, w.before _ s = true := fun w h => hts w (List.mem_cons_of_mem _ h)
  subst hsz
  have hl := lv_entry as (n := maxL) hlen
  rw [lg_entry_eq]
  exact body p e s m _ below meth c (gA w s.heap.size) ⟨B.exec, B.bytes, hml, ho ▸ findClass_of_methodNamed B.named, hts⟩ hK B.returns B.notSynchronized (fun q h => Or.inr h) ⟨hP, gD_re hD0 (fun j h _ => Or.inl ⟨j, h, rfl⟩), va_S.rf⟩ _ hl
section GC
variable {p : Program} {l : Launch} {e : Env} {R : Room} {s : State} {m : MethodId} {args : Array Value} {below : List Frame} {meth : Method} {c : Code} {H : Heap} {locs : List Loc} {cells slots : Nat} {Q : State → Prop}
variable {cc : ByteArray} {pc nL : Nat} {ls : Array Slot} {rest st0 : List Value} {E : GEnv} {cl : List vw_C} {tl : List FieldType} {A : Nat → Prop} {w : GW} {r : Rfm} {v : Mem} {own : String}
theorem g_iret {post : Int32 → Mem → Prop} (C : CallFix p m c cc nL s args lw_all own) (hr : meth.sig.returnType = some .int) (hk : meth.locks = false) (I : GI E cl w r A s.heap v H locs) {x : Int32} (dec : decode cc pc = .ok (.ireturn, 1)) (hp : post x v) : W p l e R s m args below meth c H locs cells slots (MQ below (QI E cl w r post A) args s cells slots A) (F0 m pc ls [.int x]) :=
  W.iret C.1 C.2.1 hr (fun t ht _ => ⟨⟨x, v, rfl, hp, GB.of ht I.1⟩, I.2.2.F ht⟩) I.2.2.2.2 dec hk
theorem g_zret {post : Int32 → Mem → Prop} {ty : FieldType} (C : CallFix p m c cc nL s args lw_all own) (hr : meth.sig.returnType = some ty) (hk : meth.locks = false) (I : GI E cl w r A s.heap v H locs) {x : Int32} (dec : decode cc pc = .ok (.ireturn, 1)) (hn : narrow ty (.int x) = .int x) (hp : post x v) : W p l e R s m args below meth c H locs cells slots (MQ below (QI E cl w r post A) args s cells slots A) (F0 m pc ls [.int x]) :=
  W.zret C.1 C.2.1 hr hn (fun t ht _ => ⟨⟨x, v, rfl, hp, GB.of ht I.1⟩, I.2.2.F ht⟩) I.2.2.2.2 dec hk
theorem g_lret {post : Int64 → Mem → Prop} (C : CallFix p m c cc nL s args lw_all own) (hr : meth.sig.returnType = some .long) (hk : meth.locks = false) (I : GI E cl w r A s.heap v H locs) {x : Int64} (dec : decode cc pc = .ok (.lreturn, 1)) (hp : post x v) : W p l e R s m args below meth c H locs cells slots (MQ below (QL E cl w r post A) args s cells slots A) (F0 m pc ls [.long x]) :=
  W.lret C.1 C.2.1 hr (fun t ht _ => ⟨⟨x, v, rfl, hp, GB.of ht I.1⟩, I.2.2.F ht⟩) I.2.2.2.2 dec hk
theorem g_vret {post : Mem → Prop} (C : CallFix p m c cc nL s args lw_all own) (hr : meth.sig.returnType = none) (hk : meth.locks = false) (I : GI E cl w r A s.heap v H locs) (dec : decode cc pc = .ok (.return_, 1)) (hp : post v) : W p l e R s m args below meth c H locs cells slots (MQ below (QV E cl w r post A) args s cells slots A) (F0 m pc ls []) :=
  W.vret C.1 C.2.1 hr (fun t ht _ => ⟨⟨v, rfl, hp, GB.of ht I.1⟩, I.2.2.F ht⟩) I.2.2.2.2 dec hk
/-- a call's place: virtual -/
def CV (own : String) (idx : Nat) (C : String) (y : MethodName) (code : ByteArray) (maxL : Nat) (ret : Option FieldType) (n : Nat) : Prop :=
  GoodIn lw_all (wsV own idx C y (ws_ y code maxL ret)) ∧ (y.cls = C ∧ y.cls ≠ "java/lang/invoke/MethodHandle" ∧ y.cls ≠ "java/lang/invoke/VarHandle" ∧ (parseMethodDescriptor y.desc).map (fun d => d.parameters.length) = some n) ∧ maxL ≤ 21
/-- a call's place: static -/
def CSt (own : String) (idx : Nat) (y : MethodName) (code : ByteArray) (maxL : Nat) (ret : Option FieldType) (n : Nat) : Prop :=
  GoodIn lw_all (va_wsS own idx y (ws_ y code maxL ret)) ∧ (y.cls ≠ "java/lang/invoke/MethodHandle" ∧ y.cls ≠ "java/lang/invoke/VarHandle" ∧ (parseMethodDescriptor y.desc).map (fun d => d.parameters.length) = some n) ∧ maxL ≤ 21
theorem GPre.blind {sz : Nat} {as : List Value} : FrameBlind (va_Pc as (GPre E cl tl w r v sz)) := by
  intro a U g mk q
  obtain ⟨q0, q1, q2, q3, q4⟩ := q
  exact ⟨q0, q1, q2, q3, q4.same rfl⟩
theorem GPre.here (hK : KK E cl tl s) (I : GI E cl w r A s.heap v H locs) {as : List Value} (U : State) (hU : U.heap = H) (hW : s.WarmedH U.vm) : va_Pc as (GPre E cl tl w r v H.size) as.toArray U :=
  ⟨rfl, by rw [hU], by rw [hU]; exact I.1, gD_re I.2.1 (fun _ _ _ => trivial), hK.warm hW⟩
theorem g_recv (hK : KK E cl tl s) (I : GI E cl w r A s.heap v H locs) {j ci N : Nat} {b : Nat → Bool} (hj : w.2.1 j = .inl (ci, N, b)) (hn : j < w.1) {Cn : String} {T : u_T} {N' : Nat} (hc : cl[ci]? = some (Cn, T, N')) : ∃ cellB : Cell, H[w.2.2 j]? = some cellB ∧ cellB.vm.isStatics = false ∧ s.vm.findClass Cn = some cellB.cls := by
  have he := gw_at (E := E) (r := r) (v := v) hn
  rw [gE_obj hj] at he
  obtain ⟨q, h1, cell, q1, q2, q3, -⟩ := I.1 j _ he
  have hr : q = (Cn, T, N') := Option.some.inj (h1.symm.trans hc)
  subst hr
  exact ⟨cell, q1, by rw [q3]; rfl, by rw [q2]; exact (hK.1.1 ci _ hc).2.1⟩
theorem gA_in (I : GI E cl w r A s.heap v H locs) (hA : ∀ q, s.heap.size ≤ q → A q) : ∀ q, gA w H.size q → A q := by
  intro q h
  rcases h with ⟨j, hj, rfl⟩ | h
  · exact I.2.1.2 j _ (gw_at hj)
  · exact hA q (Nat.le_trans I.2.2.1 h)
theorem GI.after (I : GI E cl w r A s.heap v H locs) {v' : Mem} {H' : Heap} {locs' : List Loc} (hP : va_P E.1 cl (gw E w r v') H') (hS : va_S A s.heap H' locs') : GI E cl w r A s.heap v' H' locs' :=
  ⟨hP, gD_re I.2.1 (fun _ _ h => h), hS⟩
/-- what a call asks of the frame -/
def CR (ls : Array Slot) (nL : Nat) (rest : List Value) : Prop := ls.size = nL ∧ (rest.map fun v => v.category).sum ≤ 8
variable {y : MethodName} {code : ByteArray} {maxL d D idx n : Nat} {ret : Option FieldType} {As : List Value} {Cn : String}
theorem g_runV (C : CallFix p m c cc nL s args lw_all own) (hK : KK E cl tl s) (hA : ∀ q, s.heap.size ≤ q → A q) (I : GI E cl w r A s.heap v H locs) {Qc : (Nat → Prop) → Array Value → State → Outcome → State → Prop} (j : Nat) (cv : CV own idx Cn y code maxL ret n) {ci N : Nat} {b : Nat → Bool} (hj : w.2.1 j = .inl (ci, N, b)) (hjn : j < w.1) {T : u_T} {N' : Nat} (hc : cl[ci]? = some (Cn, T, N')) (M : MetG l y code maxL ret d E cl tl w r (.ref (w.2.2 j) :: As) v Qc) (hd : d + 1 ≤ D) (hAs : As.length = n) (hl : ls.size = nL) (hst : st0 = As.reverse ++ .ref (w.2.2 j) :: rest) (hw : (rest.map fun v => v.category).sum ≤ 8) (dec : decode cc pc = .ok (.invokevirtual idx, 3)) :
    va_Run p l e (rmD D 0 0) s m args below meth c H locs 0 0 0 0 (F0 m pc ls st0) rest (Qc (gA w H.size) (Value.ref (w.2.2 j) :: As).toArray) (gA w H.size) := by
  have hcw : CallW (rmD D 0 0) s args own Cn idx y code maxL ret (ws_ y code maxL ret) (rmD d 0 0) 0 0 n := cwV n C.2.2.2.2 cv.1 rfl rfl rfl cv.2.1 ⟨hd, by have := cv.2.2; simp only [rmD]; omega⟩
  exact va_runV C (M H.size) hcw ⟨GPre.blind, g_recv hK I hj hjn hc, fun U hU hW => GPre.here hK I U hU hW⟩ rfl hAs hl hst (by simpa [JFrame.monitorRoom] using hw) dec ⟨Nat.zero_le _, Nat.zero_le _⟩
theorem g_runS (C : CallFix p m c cc nL s args lw_all own) (hK : KK E cl tl s) (hA : ∀ q, s.heap.size ≤ q → A q) (I : GI E cl w r A s.heap v H locs) {Qc : (Nat → Prop) → Array Value → State → Outcome → State → Prop} (cv : CSt own idx y code maxL ret n) (M : MetG l y code maxL ret d E cl tl w r As v Qc) (hd : d + 1 ≤ D) (hAs : As.length = n) (hl : ls.size = nL) (hst : st0 = As.reverse ++ rest) (hw : (rest.map fun v => v.category).sum ≤ 8) (dec : decode cc pc = .ok (.invokestatic idx, 3)) :
    va_Run p l e (rmD D 0 0) s m args below meth c H locs 0 0 0 0 (F0 m pc ls st0) rest (Qc (gA w H.size) As.toArray) (gA w H.size) := by
  have hcw := va_cwS (R := rmD D 0 0) (rm := rmD d 0 0) n C.2.2.2.2 cv.1 rfl rfl rfl cv.2.1 ⟨hd, by have := cv.2.2; simp only [rmD]; omega⟩
  exact va_runS C (M H.size) hcw ⟨GPre.blind, fun U hU hW => GPre.here hK I U hU hW⟩ rfl hAs hl hst (by simpa [JFrame.monitorRoom] using hw) dec ⟨Nat.zero_le _, Nat.zero_le _⟩
theorem g_outI (hA : ∀ q, s.heap.size ≤ q → A q) (I : GI E cl w r A s.heap v H locs) {a : Array Value} {post : Int32 → Mem → Prop} (hr : va_Run p l e R s m args below meth c H locs 0 0 0 0 (F0 m pc ls st0) rest (QI E cl w r post (gA w H.size) a) (gA w H.size))
    (kk : ∀ (x : Int32) (v' : Mem) (H1 : Heap) (locs1 : List Loc), post x v' → GI E cl w r A s.heap v' H1 locs1 → W p l e R s m args below meth c H1 locs1 0 0 Q (F0 m (pc + 3) ls (.int x :: rest))) : W p l e R s m args below meth c H locs 0 0 Q (F0 m pc ls st0) :=
  va_calli hr I.2.2 (fun q _ h => gA_in I hA q h) (gA_in I hA) (fun x v' t H1 locs1 ht _ hp hB _ _ hS => kk x v' H1 locs1 hp (I.after (by rw [← ht]; exact hB) hS))
theorem g_outL (hA : ∀ q, s.heap.size ≤ q → A q) (I : GI E cl w r A s.heap v H locs) {a : Array Value} {post : Int64 → Mem → Prop} (hr : va_Run p l e R s m args below meth c H locs 0 0 0 0 (F0 m pc ls st0) rest (QL E cl w r post (gA w H.size) a) (gA w H.size))
    (kk : ∀ (x : Int64) (v' : Mem) (H1 : Heap) (locs1 : List Loc), post x v' → GI E cl w r A s.heap v' H1 locs1 → W p l e R s m args below meth c H1 locs1 0 0 Q (F0 m (pc + 3) ls (.long x :: rest))) : W p l e R s m args below meth c H locs 0 0 Q (F0 m pc ls st0) :=
  va_calll hr I.2.2 (fun q _ h => gA_in I hA q h) (gA_in I hA) (fun x v' t H1 locs1 ht _ hp hB _ _ hS => kk x v' H1 locs1 hp (I.after (by rw [← ht]; exact hB) hS))
theorem g_outV (hA : ∀ q, s.heap.size ≤ q → A q) (I : GI E cl w r A s.heap v H locs) {a : Array Value} {post : Mem → Prop} (hr : va_Run p l e R s m args below meth c H locs 0 0 0 0 (F0 m pc ls st0) rest (QV E cl w r post (gA w H.size) a) (gA w H.size))
    (kk : ∀ (v' : Mem) (H1 : Heap) (locs1 : List Loc), post v' → GI E cl w r A s.heap v' H1 locs1 → W p l e R s m args below meth c H1 locs1 0 0 Q (F0 m (pc + 3) ls rest)) : W p l e R s m args below meth c H locs 0 0 Q (F0 m pc ls st0) :=
  va_callv hr I.2.2 (fun q _ h => gA_in I hA q h) (gA_in I hA) (fun v' t H1 locs1 ht _ hp hB _ _ hS => kk v' H1 locs1 hp (I.after (by rw [← ht]; exact hB) hS))
end GC
