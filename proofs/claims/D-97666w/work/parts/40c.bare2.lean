/-! law kinds: old objects, calls of overriding methods and of super's -/
set_option maxRecDepth 100000
/-- an object that was there at the start, of the class Cn -/
def OldO (s0 : State) (Cn : String) (q : Nat) : Prop := q < s0.heap.size ∧ ∃ cell : Cell, s0.heap[q]? = some cell ∧ cell.vm.isStatics = false ∧ s0.vm.findClass Cn = some cell.cls
def MetXB (l : Launch) (y : MethodName) (code : ByteArray) (maxL : Nat) (ret : Option FieldType) (d : Nat) (s0 : State) (E : GEnv) (cl : List vw_C) (tl : List FieldType) (w : GW) (r : Rfm) (as : List Value) (v : Mem) (Qc : (Nat → Prop) → Array Value → State → Outcome → State → Prop) : Prop :=
  ∀ sz, MetB l y (ws_ y code maxL ret) (rmD d 0 0) (va_Pc as (GPreX s0 E cl tl w r v sz)) (Qc (gA w sz)) 0 0 (gA w sz)
abbrev MyI (l : Launch) (y : MethodName) (code : ByteArray) (maxL : Nat) (ret : Option FieldType) (d : Nat) (s0 : State) (E : GEnv) (cl : List vw_C) (tl : List FieldType) (w : GW) (r r' : Rfm) (as : List Value) (v : Mem) (post : Int32 → Mem → Prop) : Prop := MetXB l y code maxL ret d s0 E cl tl w r as v (QI E cl w r' post)
theorem MetXB.of {l : Launch} {y : MethodName} {code : ByteArray} {maxL : Nat} {ret : Option FieldType} {d : Nat} {s0 : State} {E : GEnv} {cl : List vw_C} {tl : List FieldType} {w : GW} {r : Rfm} {as : List Value} {v : Mem} {Qc : (Nat → Prop) → Array Value → State → Outcome → State → Prop} (own : String) (lv : List (Nat × Value)) (hy : plainName y.cls = true) (ho : y.cls = own) (hlv : lv_args 0 as = lv) (hlen : (lg_sl as).length ≤ maxL)
    (body : ∀ (p : Program) (e : Env) (s : State) (m : MethodId) (args : Array Value) (below : List Frame) (meth : Method) (c : Code) (A : Nat → Prop), CallFix p m c code maxL s args lw_all own → KK E cl tl s → meth.sig.returnType = ret → meth.locks = false → (∀ q, s.heap.size ≤ q → A q) → OX s0 w s → (∀ q, A q → s0.heap.size ≤ q) → GI E cl w r A s.heap v s.heap [] → ∀ ls : Array Slot, lv_has ls maxL lv →
      W p l e (rmD d 0 0) s m args below meth c s.heap [] 0 0 (MQ below (Qc A) args s 0 0 A) (F0 m 0 ls [])) : MetXB l y code maxL ret d s0 E cl tl w r as v Qc := by
  intro sz
  subst hlv
  refine MetB.ofW (cc := code) (maxL := maxL) (ret := ret) hy rfl ?_
  intro p e s m args below meth c hx hb hml hn hts hr hk hv
  obtain ⟨rfl, ⟨hsz, hP, hD0, hK⟩, hO⟩ := hv
  have hts : ∀ w ∈ lw_all, w.before _ s = true := fun w h => hts w (List.mem_cons_of_mem _ h)
  subst hsz
  have hl := lv_entry as (n := maxL) hlen
  rw [lg_entry_eq]
  exact body p e s m _ below meth c (gA w s.heap.size) ⟨hx, hb, hml, ho ▸ findClass_of_methodNamed hn, hts⟩ hK hr hk (fun q h => Or.inr h) hO (fun q h => by
    rcases h with ⟨j, hj, rfl⟩ | h
    · exact hO.2.2.2 j hj
    · exact Nat.le_trans hO.2.2.1 h) ⟨hP, gD_re hD0 (fun j h _ => Or.inl ⟨j, h, rfl⟩), va_S.rf⟩ _ hl
section GY
variable {p : Program} {l : Launch} {e : Env} {R : Room} {s : State} {m : MethodId} {args : Array Value} {below : List Frame} {meth : Method} {c : Code} {H : Heap} {locs : List Loc} {cells slots : Nat} {Q : State → Prop}
variable {cc : ByteArray} {pc nL : Nat} {ls : Array Slot} {rest st0 : List Value} {s0 : State} {E : GEnv} {cl : List vw_C} {tl : List FieldType} {A : Nat → Prop} {w : GW} {r r' : Rfm} {v : Mem} {own : String}
variable {x y : MethodName} {code : ByteArray} {maxL d D idx n : Nat} {ret : Option FieldType} {As : List Value} {Cn : String}
theorem OldO.recv (O : OX s0 w s) (hAo : ∀ q, A q → s0.heap.size ≤ q) (I : GI E cl w r A s.heap v H locs) {q : Nat} (h : OldO s0 Cn q) : ∃ cellB : Cell, H[q]? = some cellB ∧ cellB.vm.isStatics = false ∧ s.vm.findClass Cn = some cellB.cls := by
  obtain ⟨hq, cell, h1, h2, h3⟩ := h
  refine ⟨cell, ?_, h2, ?_⟩
  · rw [I.2.2.2.1 q (Nat.lt_of_lt_of_le hq O.2.2.1) (fun h => by have := hAo q h; omega), O.2.1 q hq]; exact h1
  · rw [O.1.findClass]; exact h3
/-- the words of a call of an overriding method -/
def CO (own : String) (idx : Nat) (Cn : String) (x y : MethodName) (code : ByteArray) (maxL : Nat) (ret : Option FieldType) (n : Nat) : Prop :=
  Cond.methodLink own idx x ∈ lw_all ∧ Cond.sameMethod x.cls x.cls x.name x.desc ∈ lw_all ∧ Cond.instanceMethod x ∈ lw_all ∧ (∃ b0 m0 r0, Cond.code x b0 m0 r0 ∈ lw_all) ∧ Cond.selects Cn x y ∈ lw_all ∧ Cond.instanceMethod y ∈ lw_all ∧ Cond.code y code maxL ret ∈ lw_all ∧ (x.cls ≠ "java/lang/invoke/MethodHandle" ∧ x.cls ≠ "java/lang/invoke/VarHandle" ∧ (parseMethodDescriptor x.desc).map (fun d => d.parameters.length) = some n) ∧ maxL ≤ 21
theorem lw_warm (ht : ∀ w ∈ lw_all, w.before args s = true) (hcd : Cond.code y code maxL ret ∈ lw_all) : ∀ w ∈ ws_ y code maxL ret, ∀ (a' : Array Value) (U : State), s.WarmedH U.vm → w.before a' U = true :=
  pay_in ht (lw_good (fun w hw => by
    rcases List.mem_cons.mp hw with rfl | h
    · exact hcd
    · exact h))
theorem b_runV (C : CallFix p m c cc nL s args lw_all own) (hK : KK E cl tl s) (O : OX s0 w s) (hAo : ∀ q, A q → s0.heap.size ≤ q) (I : GI E cl w r A s.heap v H locs) {Qc : (Nat → Prop) → Array Value → State → Outcome → State → Prop} (q : Nat) (co : CO own idx Cn x y code maxL ret n) (hq : OldO s0 Cn q) (M : MetXB l y code maxL ret d s0 E cl tl w r (.ref q :: As) v Qc) (hd : d + 1 ≤ D) (hAs : As.length = n) (hl : ls.size = nL) (hst : st0 = As.reverse ++ .ref q :: rest) (hw : (rest.map fun v => v.category).sum ≤ 8) (dec : decode cc pc = .ok (.invokevirtual idx, 3)) :
    va_Run p l e (rmD D 0 0) s m args below meth c H locs 0 0 0 0 (F0 m pc ls st0) rest (Qc (gA w H.size) (Value.ref q :: As).toArray) (gA w H.size) := by
  obtain ⟨h1, h2, h3, ⟨b0, m0, r0, h3c⟩, h4, h5, h6, h7, h8⟩ := co
  have ht := C.2.2.2.2
  have hB : Back l (rmD D 0 0) p e below s args y 3 8 (PreOf (rmD D 0 0) 0 0 (va_Pc (.ref q :: As) (GPreX s0 E cl tl w r v H.size))) (PostOf (Qc (gA w H.size)) 0 0 (gA w H.size)) :=
    MetB.back (bytes := code) (maxL := maxL) (ret := ret) (M H.size) GPreX.blind rfl rfl hd (by simp only [rmD]; omega) (lw_warm ht h6) List.mem_cons_self
  obtain ⟨cellB, hcB, hoB, hclB⟩ := hq.recv O hAo I
  obtain ⟨hx, hb, hml, ho, -⟩ := C
  have hlen : ∀ sig, parseMethodDescriptor x.desc = some sig → As.length = sig.parameters.length := fun sig h => by
    have h9 := h7.2.2
    rw [h] at h9
    exact hAs.trans (Option.some.inj h9).symm
  intro T hT X
  obtain ⟨v', vm₁, ⟨U', l2, c2, s2⟩, hW₁, X', ⟨g', mk, t, L, e1, e2, hq', g1, hL, g2, g3⟩, st⟩ := va_callVU X hx (C := Cn) (owner := x.cls) (x := x) (y := y) (bytes := code) (maxL := maxL) (ret := ret) ho (ht _ h1) (ht _ h2) (va_Decl.of (ht _ h3) (ht _ h3c)) ⟨h7.1, h7.2.1⟩ (ht _ h4) (ht _ h5) (ht _ h6) hB (by rw [hT]; exact hcB) hoB hclB (g := F0 m pc ls st0) rfl (hl.trans hml.symm) (argsL := As) (rest := rest) hlen hst (by simpa [JFrame.monitorRoom] using hw) (by rw [hb]; exact dec)
    (fun vm₁ hW₁ => ⟨Nat.zero_le _, Nat.zero_le _, GPreX.here hK O hAo I (T.setVm vm₁) hT hW₁⟩)
  dsimp only [Pt.U, Pt.locs, Pt.cells, Pt.slots] at X' e1 e2 g1 g2 g3 st
  subst g1; subst g2; subst g3
  exact ⟨v', (T.setVm vm₁).calling g' mk (Value.ref q :: As).toArray, t, U', L, hT, X', hL, e1, e2, hq', st⟩
/-- the words of a call of super's method -/
def CU (own : String) (idx : Nat) (y : MethodName) (code : ByteArray) (maxL : Nat) (ret : Option FieldType) (n : Nat) : Prop :=
  Cond.methodLink own idx y ∈ lw_all ∧ Cond.sameMethod y.cls y.cls y.name y.desc ∈ lw_all ∧ Cond.superclass own y.cls ∈ lw_all ∧ Cond.instanceMethod y ∈ lw_all ∧ Cond.code y code maxL ret ∈ lw_all ∧ y.name ≠ "<init>" ∧ (parseMethodDescriptor y.desc).map (fun d => d.parameters.length) = some n ∧ maxL ≤ 21
theorem b_runU (C : CallFix p m c cc nL s args lw_all own) (hK : KK E cl tl s) (O : OX s0 w s) (hAo : ∀ q, A q → s0.heap.size ≤ q) (I : GI E cl w r A s.heap v H locs) {Qc : (Nat → Prop) → Array Value → State → Outcome → State → Prop} (q : Nat) (co : CU own idx y code maxL ret n) (hq : OldO s0 Cn q) (M : MetXB l y code maxL ret d s0 E cl tl w r (.ref q :: As) v Qc) (hd : d + 1 ≤ D) (hAs : As.length = n) (hl : ls.size = nL) (hst : st0 = As.reverse ++ .ref q :: rest) (hw : (rest.map fun v => v.category).sum ≤ 8) (dec : decode cc pc = .ok (.invokespecial idx, 3)) :
    va_Run p l e (rmD D 0 0) s m args below meth c H locs 0 0 0 0 (F0 m pc ls st0) rest (Qc (gA w H.size) (Value.ref q :: As).toArray) (gA w H.size) := by
  obtain ⟨h1, h2, h3, h4, h5, h6, h7, h8⟩ := co
  have ht := C.2.2.2.2
  have hB : Back l (rmD D 0 0) p e below s args y 3 8 (PreOf (rmD D 0 0) 0 0 (va_Pc (.ref q :: As) (GPreX s0 E cl tl w r v H.size))) (PostOf (Qc (gA w H.size)) 0 0 (gA w H.size)) :=
    MetB.back (bytes := code) (maxL := maxL) (ret := ret) (M H.size) GPreX.blind rfl rfl hd (by simp only [rmD]; omega) (lw_warm ht h5) List.mem_cons_self
  obtain ⟨cellB, hcB, hoB, hclB⟩ := hq.recv O hAo I
  obtain ⟨kB, hkB, -⟩ := Vm.findClass_spec hclB
  obtain ⟨hx, hb, hml, ho, -⟩ := C
  have hlen : ∀ sig, parseMethodDescriptor y.desc = some sig → As.length = sig.parameters.length := fun sig h => by
    have h9 := h7
    rw [h] at h9
    exact hAs.trans (Option.some.inj h9).symm
  intro T hT X
  obtain ⟨v', vm₁, ⟨U', l2, c2, s2⟩, hW₁, X', ⟨g', mk, t, L, e1, e2, hq', g1, hL, g2, g3⟩, st⟩ := va_callSU X hx (bytes := code) (maxL := maxL) (ret := ret) ho (ht _ h1) (ht _ h2) (ht _ h3) (ht _ h4) (ht _ h5) h6 hB (by rw [hT]; exact hcB) hoB hkB (g := F0 m pc ls st0) rfl (hl.trans hml.symm) (argsL := As) (rest := rest) hlen hst (by simpa [JFrame.monitorRoom] using hw) (by rw [hb]; exact dec)
    (fun vm₁ hW₁ => ⟨Nat.zero_le _, Nat.zero_le _, GPreX.here hK O hAo I (T.setVm vm₁) hT hW₁⟩)
  dsimp only [Pt.U, Pt.locs, Pt.cells, Pt.slots] at X' e1 e2 g1 g2 g3 st
  subst g1; subst g2; subst g3
  exact ⟨v', (T.setVm vm₁).calling g' mk (Value.ref q :: As).toArray, t, U', L, hT, X', hL, e1, e2, hq', st⟩
/-- a call's place: a static method of a nest mate -/
def CN (own : String) (idx : Nat) (y : MethodName) (code : ByteArray) (maxL : Nat) (ret : Option FieldType) (n : Nat) : Prop :=
  ∃ host, Cond.methodLinkNest own idx y host ∈ lw_nest ∧ Cond.static y ∈ lw_all ∧ Cond.initialized y.cls ∈ lw_all ∧ Cond.code y code maxL ret ∈ lw_all ∧ (y.cls ≠ "java/lang/invoke/MethodHandle" ∧ y.cls ≠ "java/lang/invoke/VarHandle" ∧ (parseMethodDescriptor y.desc).map (fun d => d.parameters.length) = some n) ∧ maxL ≤ 21
theorem x_runN (C : CallFix p m c cc nL s args lw_all own) (hK : KK E cl tl s) (O : OX s0 w s) (hAo : ∀ q, A q → s0.heap.size ≤ q) (I : GI E cl w r A s.heap v H locs) {Qc : (Nat → Prop) → Array Value → State → Outcome → State → Prop} (cn : CN own idx y code maxL ret n) (M : MetX l y code maxL ret d s0 E cl tl w r As v Qc) (hd : d + 1 ≤ D) (hAs : As.length = n) (hl : ls.size = nL) (hst : st0 = As.reverse ++ rest) (hw : (rest.map fun v => v.category).sum ≤ 8) (dec : decode cc pc = .ok (.invokestatic idx, 3)) :
    va_Run p l e (rmD D 0 0) s m args below meth c H locs 0 0 0 0 (F0 m pc ls st0) rest (Qc (gA w H.size) As.toArray) (gA w H.size) := by
  obtain ⟨host, h1, h2, h3, h4, h5, h6⟩ := cn
  have ht := C.2.2.2.2
  have hcn := va_cnB (R := rmD D 0 0) (rm := rmD d 0 0) (mc := 0) (ms := 0) (own := own) (host := host) (index := idx) (y := y) (bytes := code) (maxL := maxL) (ret := ret) n ht (lw_good (ws := ws_ y code maxL ret) (fun w hw => by
    rcases List.mem_cons.mp hw with rfl | h
    · exact h4
    · exact h)) rfl rfl rfl (hK.2 _ h1) (ht _ h3) h5 ⟨hd, by simp only [rmD]; omega⟩
  exact va_runSN C (M H.size) ⟨hcn, ht _ h2, trivial⟩ ⟨GPreX.blind, fun U hU hW => GPreX.here hK O hAo I U hU hW⟩ rfl hAs hl hst (by simpa [JFrame.monitorRoom] using hw) dec ⟨Nat.zero_le _, Nat.zero_le _⟩
end GY
