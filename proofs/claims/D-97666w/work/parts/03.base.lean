/-! OWN WORLDS: cells numbered from 0; ints of all cells in one memory, references in another -/
set_option maxRecDepth 100000
abbrev GEnv : Type := va_G × (Nat → ClassId)
abbrev Mem : Type := Nat → Nat → Int32
abbrev Rfm : Type := Nat → Nat → Option Nat
/-- a cell's kind: an object (class number, fields, which are ints), an array of ints (number of its type, length), an array of references -/
abbrev SkC : Type := (Nat × Nat × (Nat → Bool)) ⊕ ((Nat × Nat) ⊕ (Nat × Nat))
/-- a world: how many cells, their kinds, their addresses -/
abbrev GW : Type := Nat × (Nat → SkC) × (Nat → Nat)
def gF (b : Nat → Bool) (r : Nat → Option Nat) (f : Nat → Int32) (k : Nat) : Value := match b k with
  | true => .int (f k)
  | false => va_rf (r k)
def gE (E : GEnv) (c : SkC) (r : Nat → Option Nat) (f : Nat → Int32) : va_E := match c with
  | .inl q => .inr (q.1, (List.range q.2.1).map (gF q.2.2 r f))
  | .inr (.inl q) => .inl (E.2 q.1, q.2, .inl f)
  | .inr (.inr q) => .inl (E.2 q.1, q.2, .inr (.inr (.inr (.inr r))))
def gw (E : GEnv) (w : GW) (r : Rfm) (v : Mem) : va_W := (List.range w.1).map fun j => (w.2.2 j, gE E (w.2.1 j) (r j) (v j))
theorem gw_at {E : GEnv} {w : GW} {r : Rfm} {v : Mem} {j : Nat} (h : j < w.1) : (gw E w r v)[j]? = some (w.2.2 j, gE E (w.2.1 j) (r j) (v j)) := by
  simp [gw, h]
theorem gw_of {E : GEnv} {w : GW} {r : Rfm} {v : Mem} {j : Nat} {q : Nat × va_E} (h : (gw E w r v)[j]? = some q) : j < w.1 ∧ q = (w.2.2 j, gE E (w.2.1 j) (r j) (v j)) := by
  have hl : j < w.1 := by
    have := (List.getElem?_eq_some_iff.mp h).1
    simpa [gw] using this
  rw [gw_at hl] at h
  exact ⟨hl, (Option.some.inj h).symm⟩
/-- one int written -/
def st2 (v : Mem) (j k : Nat) (x : Int32) : Mem := fun a b => if a = j ∧ b = k then x else v a b
theorem st2_row (v : Mem) (j k : Nat) (x : Int32) (a : Nat) : st2 v j k x a = if a = j then upd (v j) k x else v a := by
  funext b
  by_cases h : a = j
  · subst h; simp [st2, upd]
  · simp [st2, h]
theorem st2_same (v : Mem) (j k : Nat) (x : Int32) : st2 v j k x j k = x := by simp [st2]
theorem st2_cell (v : Mem) {j k a : Nat} (x : Int32) (b : Nat) (h : a ≠ j) : st2 v j k x a b = v a b := by simp [st2, h]
theorem st2_at (v : Mem) {j k b : Nat} (x : Int32) (a : Nat) (h : b ≠ k) : st2 v j k x a b = v a b := by simp [st2, h]
/-- one reference written -/
def sr2 (r : Rfm) (j k : Nat) (x : Option Nat) : Rfm := fun a b => if a = j ∧ b = k then x else r a b
theorem gw_eq {E : GEnv} {w : GW} {r r' : Rfm} {v v' : Mem} {j : Nat} (h : j < w.1) (hn : ∀ a, a ≠ j → r' a = r a ∧ v' a = v a) : (gw E w r v).set j (w.2.2 j, gE E (w.2.1 j) (r' j) (v' j)) = gw E w r' v' := by
  apply List.ext_getElem?
  intro i
  by_cases hi : i < w.1
  · rw [gw_at hi]
    by_cases hij : i = j
    · subst hij
      rw [List.getElem?_set_self (by simpa [gw] using hi)]
    · rw [List.getElem?_set_ne (Ne.symm hij), gw_at hi, (hn i hij).1, (hn i hij).2]
  · rw [List.getElem?_eq_none (by simp [gw]; omega), List.getElem?_eq_none (by simp [gw]; omega)]
/-- the cells that a method over the world w may write: its own, and new ones -/
def gA (w : GW) (sz : Nat) : Nat → Prop := fun q => (∃ j, j < w.1 ∧ w.2.2 j = q) ∨ sz ≤ q
theorem gD_re {E : GEnv} {w : GW} {r r' : Rfm} {v v' : Mem} {A B : Nat → Prop} (h : va_D A (gw E w r v)) (hAB : ∀ j, j < w.1 → A (w.2.2 j) → B (w.2.2 j)) : va_D B (gw E w r' v') := by
  refine ⟨fun i j p q hi hj e => ?_, fun k q hk => ?_⟩
  · obtain ⟨li, ei⟩ := gw_of hi
    obtain ⟨lj, ej⟩ := gw_of hj
    exact h.1 i j _ _ (gw_at li) (gw_at lj) (by rw [ei, ej] at e; exact e)
  · obtain ⟨lk, ek⟩ := gw_of hk
    rw [ek]
    exact hAB k lk (h.2 k _ (gw_at lk))
def gT (E : GEnv) (tl : List FieldType) : List (ClassId × FieldType) := (List.range tl.length).map fun t => (E.2 t, tl.getD t .int)
theorem gT_at {E : GEnv} {tl : List FieldType} {t : Nat} {ty : FieldType} (h : tl[t]? = some ty) : (gT E tl)[t]? = some (E.2 t, ty) := by
  obtain ⟨hl, he⟩ := List.getElem?_eq_some_iff.mp h
  simp [gT, hl, he]
/-- words that ride beside the lists -/
def isNestW : Cond → Bool
  | .fieldLinkNest .. => true
  | .methodLinkNest .. => true
  | _ => false
def lw_nest : List Cond := lw_tbl.filter isNestW
theorem nest_warm {w : Cond} (hw : isNestW w = true) {s U : State} (hW : s.WarmedH U.vm) (h : va_Nw w s) : va_Nw w U := by
  cases w with
  | fieldLinkNest a i b n d hh => exact va_Nw.warmF hW h
  | methodLinkNest a i x hh => exact va_Nw.warmM hW h
  | _ => cases hw
theorem nest_tabs {w : Cond} (hw : isNestW w = true) : w.onTables = true := by
  cases w with
  | fieldLinkNest a i b n d hh => rfl
  | methodLinkNest a i x hh => rfl
  | _ => cases hw
/-- what the tables say, all through a run -/
def KK (E : GEnv) (cl : List vw_C) (tl : List FieldType) (U : State) : Prop := va_K E.1 cl (gT E tl) U ∧ ∀ w ∈ lw_nest, va_Nw w U
theorem KK.warm {E : GEnv} {cl : List vw_C} {tl : List FieldType} {s U : State} (h : KK E cl tl s) (hW : s.WarmedH U.vm) : KK E cl tl U :=
  ⟨va_K.moved hW.alike h.1, fun w hw => nest_warm (List.mem_filter.mp hw).2 hW (h.2 w hw)⟩
theorem KK.same {E : GEnv} {cl : List vw_C} {tl : List FieldType} {s U : State} (h : KK E cl tl s) (e : s.vm = U.vm) : KK E cl tl U :=
  ⟨va_K.moved (by rw [e]; exact Vm.Alike.refl _) h.1, fun w hw => va_Nw.same (nest_tabs (List.mem_filter.mp hw).2) e (h.2 w hw)⟩
/-- the world, as it stands in the heap H, within A, since H0 -/
def GI (E : GEnv) (cl : List vw_C) (w : GW) (r : Rfm) (A : Nat → Prop) (H0 : Heap) (v : Mem) (H : Heap) (locs : List Loc) : Prop :=
  va_P E.1 cl (gw E w r v) H ∧ va_D A (gw E w r v) ∧ va_S A H0 H locs
/-- a field's link, for reading -/
def FL (cl : List vw_C) (own : String) (idx ci k : Nat) : Prop := ∃ (Cn : String) (T : u_T) (N : Nat), cl[ci]? = some (Cn, T, N) ∧ k < N ∧ (∀ w ∈ u_ws Cn T N, w ∈ lw_all) ∧ (Cond.fieldLink own idx (T k).1 (T k).2.1 (T k).2.2.1 ∈ lw_all ∨ ∃ host, Cond.fieldLinkNest own idx (T k).1 (T k).2.1 (T k).2.2.1 host ∈ lw_nest)
/-- a field's link, for writing -/
def FP (cl : List vw_C) (own : String) (idx ci k : Nat) (ty : FieldType) : Prop := ∃ (Cn : String) (T : u_T) (N : Nat) (ty0 : Nat → FieldType), cl[ci]? = some (Cn, T, N) ∧ k < N ∧ (∀ w ∈ u_ws Cn T N, w ∈ lw_all) ∧ (∀ k, k < N → parseFieldDescriptor (T k).2.2.1 = some (ty0 k)) ∧ (∀ a, a < N → ∀ b, b < N → a ≠ b → (T a).2.1 ≠ (T b).2.1) ∧ (T k).2.2.2 = false ∧ parseFieldDescriptor (T k).2.2.1 = some ty ∧ (Cond.fieldLink own idx (T k).1 (T k).2.1 (T k).2.2.1 ∈ lw_all ∨ ∃ host, Cond.fieldLinkNest own idx (T k).1 (T k).2.1 (T k).2.2.1 host ∈ lw_nest)
section GR
variable {p : Program} {l : Launch} {e : Env} {R : Room} {s : State} {m : MethodId} {args : Array Value} {below : List Frame} {meth : Method} {c : Code} {H : Heap} {locs : List Loc} {cells slots : Nat} {Q : State → Prop}
variable {cc : ByteArray} {pc nL : Nat} {ls : Array Slot} {rest : List Value} {E : GEnv} {cl : List vw_C} {tl : List FieldType} {A : Nat → Prop} {w : GW} {r : Rfm} {v : Mem} {H0 : Heap} {own : String}
theorem gE_obj {E : GEnv} {c : SkC} {r : Nat → Option Nat} {f : Nat → Int32} {ci N : Nat} {b : Nat → Bool} (h : c = .inl (ci, N, b)) : gE E c r f = .inr (ci, (List.range N).map (gF b r f)) := by subst h; rfl
theorem gE_arr {E : GEnv} {c : SkC} {r : Nat → Option Nat} {f : Nat → Int32} {t n : Nat} (h : c = .inr (.inl (t, n))) : gE E c r f = .inl (E.2 t, n, .inl f) := by subst h; rfl
theorem gE_rarr {E : GEnv} {c : SkC} {r : Nat → Option Nat} {f : Nat → Int32} {t n : Nat} (h : c = .inr (.inr (t, n))) : gE E c r f = .inl (E.2 t, n, .inr (.inr (.inr (.inr r)))) := by subst h; rfl
theorem g_get (C : CallFix p m c cc nL s args lw_all own) (hK : KK E cl tl s) (I : GI E cl w r A H0 v H locs) (j k : Nat) {ci N idx : Nat} {b : Nat → Bool} (hj : w.2.1 j = .inl (ci, N, b)) (hn : j < w.1) (F : FL cl own idx ci k) (hk : k < N) {a : Nat} (ha : w.2.2 j = a) {x : Value} (hx : gF b (r j) (v j) k = x) (dec : decode cc pc = .ok (.getfield idx, 3))
    (kk : W p l e R s m args below meth c H locs cells slots Q (F0 m (pc + 3) ls (x :: rest))) : W p l e R s m args below meth c H locs cells slots Q (F0 m pc ls (.ref a :: rest)) := by
  obtain ⟨Cn, T, N', h1, h2, h3, h4⟩ := F
  subst ha
  have he := gw_at (E := E) (r := r) (v := v) hn
  rw [gE_obj hj] at he
  have hv : ((List.range N).map (gF b (r j) (v j)))[k]? = some x := by simp [hk, hx]
  rcases h4 with h4 | ⟨host, h4⟩
  · exact va_get C.1 C.2.1 C.2.2.2.2 h3 C.2.2.2.1 hK.1 I.1 j he h1 k h2 (C.2.2.2.2 _ h4) (fun _ h => h) hv dec kk
  · exact va_getN C.1 C.2.1 C.2.2.2.2 h3 C.2.2.2.1 hK.1 I.1 j he h1 k h2 (va_Nw.use (nest_tabs (List.mem_filter.mp h4).2) (hK.2 _ h4)) (fun _ h => h) hv dec kk
theorem g_put (C : CallFix p m c cc nL s args lw_all own) (hK : KK E cl tl s) (I : GI E cl w r A H0 v H locs) (j k : Nat) {ci N idx : Nat} {b : Nat → Bool} (hj : w.2.1 j = .inl (ci, N, b)) (hn : j < w.1) {ty : FieldType} (F : FP cl own idx ci k ty) (hk : k < N) {a : Nat} (ha : w.2.2 j = a) {x : Value} (hnr : narrow ty x = x) (hfit : fits ty x = true) (dec : decode cc pc = .ok (.putfield idx, 3))
    {r' : Rfm} {v' : Mem} (ho : ∀ a, a ≠ j → r' a = r a ∧ v' a = v a) (hs : ∀ i, i < N → i ≠ k → gF b (r' j) (v' j) i = gF b (r j) (v j) i) (hx : gF b (r' j) (v' j) k = x)
    (kk : ∀ (H1 : Heap) (locs1 : List Loc), GI E cl w r' A H0 v' H1 locs1 → W p l e R s m args below meth c H1 locs1 cells slots Q (F0 m (pc + 3) ls rest)) : W p l e R s m args below meth c H locs cells slots Q (F0 m pc ls (x :: .ref a :: rest)) := by
  obtain ⟨Cn, T, N', ty0, h1, h2, h3, h5, h6, h7, h8, h4⟩ := F
  subst ha
  have he := gw_at (E := E) (r := r) (v := v) hn
  rw [gE_obj hj] at he
  have hl : k < ((List.range N).map (gF b (r j) (v j))).length := by simpa using hk
  have hset : ((List.range N).map (gF b (r j) (v j))).set k x = (List.range N).map (gF b (r' j) (v' j)) := by
    apply List.ext_getElem?
    intro i
    by_cases hik : i = k
    · subst hik
      rw [List.getElem?_set_self hl]
      simp [hk, hx]
    · rw [List.getElem?_set_ne (Ne.symm hik)]
      by_cases hi : i < N
      · simp [hi, hs i hi hik]
      · rw [List.getElem?_eq_none (by simpa using Nat.le_of_not_lt hi), List.getElem?_eq_none (by simpa using Nat.le_of_not_lt hi)]
  have hw : (gw E w r v).set j (w.2.2 j, .inr (ci, ((List.range N).map (gF b (r j) (v j))).set k x)) = gw E w r' v' := by
    rw [hset, ← gE_obj (E := E) (r := r' j) (f := v' j) hj]
    exact gw_eq hn ho
  rcases h4 with h4 | ⟨host, h4⟩
  · refine va_put C.1 C.2.1 C.2.2.2.2 h3 ty0 h5 h6 C.2.2.2.1 hK.1 I.1 I.2.1 I.2.2 j he h1 k h2 (C.2.2.2.2 _ h4) (fun _ h => h) h7 h8 hnr hfit hl dec (fun H1 locs1 a1 a2 a3 => ?_)
    rw [hw] at a1 a2
    exact kk H1 locs1 ⟨a1, a2, a3⟩
  · refine va_putN C.1 C.2.1 C.2.2.2.2 h3 ty0 h5 h6 C.2.2.2.1 hK.1 I.1 I.2.1 I.2.2 j he h1 k h2 (va_Nw.use (nest_tabs (List.mem_filter.mp h4).2) (hK.2 _ h4)) (fun _ h => h) h7 h8 hnr hfit hl dec (fun H1 locs1 a1 a2 a3 => ?_)
    rw [hw] at a1 a2
    exact kk H1 locs1 ⟨a1, a2, a3⟩
/-- an int field written -/
theorem g_putI (C : CallFix p m c cc nL s args lw_all own) (hK : KK E cl tl s) (I : GI E cl w r A H0 v H locs) (j k : Nat) {ci N idx : Nat} {b : Nat → Bool} (hj : w.2.1 j = .inl (ci, N, b)) (hn : j < w.1) {ty : FieldType} (F : FP cl own idx ci k ty) (hk : k < N) (hb : b k = true) {a : Nat} (ha : w.2.2 j = a) {x : Int32} (hnr : narrow ty (.int x) = .int x) (hfit : fits ty (.int x) = true) (dec : decode cc pc = .ok (.putfield idx, 3))
    (kk : ∀ (H1 : Heap) (locs1 : List Loc), GI E cl w r A H0 (st2 v j k x) H1 locs1 → W p l e R s m args below meth c H1 locs1 cells slots Q (F0 m (pc + 3) ls rest)) : W p l e R s m args below meth c H locs cells slots Q (F0 m pc ls (.int x :: .ref a :: rest)) := by
  refine g_put C hK I j k hj hn F hk ha hnr hfit dec (r' := r) (v' := st2 v j k x) (fun a h => ⟨rfl, by funext q; exact st2_cell v x q h⟩) (fun i _ h => ?_) ?_ kk
  · unfold gF
    rw [st2_at v x j h]
  · unfold gF
    rw [hb]
    simp only [st2_same]
/-- a reference field written -/
theorem g_putR (C : CallFix p m c cc nL s args lw_all own) (hK : KK E cl tl s) (I : GI E cl w r A H0 v H locs) (j k : Nat) {ci N idx : Nat} {b : Nat → Bool} (hj : w.2.1 j = .inl (ci, N, b)) (hn : j < w.1) {ty : FieldType} (F : FP cl own idx ci k ty) (hk : k < N) (hb : b k = false) {a : Nat} (ha : w.2.2 j = a) {y : Nat} (hnr : narrow ty (.ref y) = .ref y) (hfit : fits ty (.ref y) = true) (dec : decode cc pc = .ok (.putfield idx, 3))
    (kk : ∀ (H1 : Heap) (locs1 : List Loc), GI E cl w (sr2 r j k (some y)) A H0 v H1 locs1 → W p l e R s m args below meth c H1 locs1 cells slots Q (F0 m (pc + 3) ls rest)) : W p l e R s m args below meth c H locs cells slots Q (F0 m pc ls (.ref y :: .ref a :: rest)) := by
  refine g_put C hK I j k hj hn F hk ha hnr hfit dec (r' := sr2 r j k (some y)) (v' := v) (fun a h => ⟨by funext q; simp [sr2, h], rfl⟩) (fun i _ h => ?_) ?_ kk
  · unfold gF
    simp [sr2, h]
  · unfold gF
    rw [hb]
    simp [sr2, va_rf]
theorem vp_in_q {i : Int32} {q n : Nat} (hq : i.toNatClampNeg = q) (h0 : 0 ≤ i) (hn : q < n) : vp_in i n := by
  intro h
  rcases h with h | h
  · rw [Int32.lt_iff_toInt_lt] at h
    rw [Int32.le_iff_toInt_le] at h0
    omega
  · omega
/-- an index that is the number q -/
def ix (i : Int32) (q : Nat) : Prop := 0 ≤ i ∧ i.toNatClampNeg = q
theorem ix_nI {q : Nat} (h : q < 2147483648) : ix (nI q) q := ⟨nI_pos' h, nI_clamp h⟩
theorem g_iald (C : CallFix p m c cc nL s args lw_all own) (hK : KK E cl tl s) (I : GI E cl w r A H0 v H locs) (j : Nat) {t n : Nat} (hj : w.2.1 j = .inr (.inl (t, n))) (hn : j < w.1) (ht : tl[t]? = some .int) {a : Nat} (ha : w.2.2 j = a) {i : Int32} {q : Nat} (hq : ix i q) (hqn : q < n) {x : Int32} (hx : v j q = x) (dec : decode cc pc = .ok (.iaload, 1))
    (kk : W p l e R s m args below meth c H locs cells slots Q (F0 m (pc + 1) ls (.int x :: rest))) : W p l e R s m args below meth c H locs cells slots Q (F0 m pc ls (.int i :: .ref a :: rest)) := by
  subst ha
  have he := gw_at (E := E) (r := r) (v := v) hn
  rw [gE_arr hj] at he
  refine va_iald C.1 C.2.1 hK.1 I.1 j t he (gT_at ht) (vp_in_q hq.2 hq.1 hqn) dec ?_
  rw [hq.2, hx]; exact kk
theorem g_bald (C : CallFix p m c cc nL s args lw_all own) (hK : KK E cl tl s) (I : GI E cl w r A H0 v H locs) (j : Nat) {t n : Nat} (hj : w.2.1 j = .inr (.inl (t, n))) (hn : j < w.1) (ht : tl[t]? = some .byte) {a : Nat} (ha : w.2.2 j = a) {i : Int32} {q : Nat} (hq : ix i q) (hqn : q < n) {x : Int32} (hx : v j q = x) (dec : decode cc pc = .ok (.baload, 1))
    (kk : W p l e R s m args below meth c H locs cells slots Q (F0 m (pc + 1) ls (.int x :: rest))) : W p l e R s m args below meth c H locs cells slots Q (F0 m pc ls (.int i :: .ref a :: rest)) := by
  subst ha
  have he := gw_at (E := E) (r := r) (v := v) hn
  rw [gE_arr hj] at he
  refine va_bald C.1 C.2.1 hK.1 I.1 j t he (gT_at ht) (vp_in_q hq.2 hq.1 hqn) dec ?_
  rw [hq.2, hx]; exact kk
theorem g_zald (C : CallFix p m c cc nL s args lw_all own) (hK : KK E cl tl s) (I : GI E cl w r A H0 v H locs) (j : Nat) {t n : Nat} (hj : w.2.1 j = .inr (.inl (t, n))) (hn : j < w.1) (ht : tl[t]? = some .boolean) {a : Nat} (ha : w.2.2 j = a) {i : Int32} {q : Nat} (hq : ix i q) (hqn : q < n) {x : Int32} (hx : v j q = x) (dec : decode cc pc = .ok (.baload, 1))
    (kk : W p l e R s m args below meth c H locs cells slots Q (F0 m (pc + 1) ls (.int x :: rest))) : W p l e R s m args below meth c H locs cells slots Q (F0 m pc ls (.int i :: .ref a :: rest)) := by
  subst ha
  have he := gw_at (E := E) (r := r) (v := v) hn
  rw [gE_arr hj] at he
  refine va_zald C.1 C.2.1 hK.1 I.1 j t he (gT_at ht) (vp_in_q hq.2 hq.1 hqn) dec ?_
  rw [hq.2, hx]; exact kk
theorem gw_arr_set {j : Nat} {t n : Nat} (hj : w.2.1 j = .inr (.inl (t, n))) (hn : j < w.1) (q : Nat) (x : Int32) : (gw E w r v).set j (w.2.2 j, .inl (E.2 t, n, .inl (upd (v j) q x))) = gw E w r (st2 v j q x) := by
  have h1 := gE_arr (E := E) (r := r j) (f := st2 v j q x j) hj
  have h2 : st2 v j q x j = upd (v j) q x := by rw [st2_row, if_pos rfl]
  rw [h2] at h1
  rw [← h1, ← h2]
  exact gw_eq hn (fun a h => ⟨rfl, by rw [st2_row, if_neg h]⟩)
theorem g_iast (C : CallFix p m c cc nL s args lw_all own) (hK : KK E cl tl s) (I : GI E cl w r A H0 v H locs) (j : Nat) {t n : Nat} (hj : w.2.1 j = .inr (.inl (t, n))) (hn : j < w.1) (ht : tl[t]? = some .int) {a : Nat} (ha : w.2.2 j = a) {i : Int32} {q : Nat} (hq : ix i q) (hqn : q < n) {x : Int32} (dec : decode cc pc = .ok (.iastore, 1))
    (kk : ∀ (H1 : Heap) (locs1 : List Loc), GI E cl w r A H0 (st2 v j q x) H1 locs1 → W p l e R s m args below meth c H1 locs1 cells slots Q (F0 m (pc + 1) ls rest)) : W p l e R s m args below meth c H locs cells slots Q (F0 m pc ls (.int x :: .int i :: .ref a :: rest)) := by
  subst ha
  have he := gw_at (E := E) (r := r) (v := v) hn
  rw [gE_arr hj] at he
  refine va_iast C.1 C.2.1 hK.1 I.1 I.2.1 I.2.2 j t he (gT_at ht) (vp_in_q hq.2 hq.1 hqn) dec (fun H1 locs1 a1 a2 a3 => ?_)
  rw [hq.2, gw_arr_set hj hn] at a1 a2
  exact kk H1 locs1 ⟨a1, a2, a3⟩
theorem g_bast (C : CallFix p m c cc nL s args lw_all own) (hK : KK E cl tl s) (I : GI E cl w r A H0 v H locs) (j : Nat) {t n : Nat} (hj : w.2.1 j = .inr (.inl (t, n))) (hn : j < w.1) (ht : tl[t]? = some .byte) {a : Nat} (ha : w.2.2 j = a) {i : Int32} {q : Nat} (hq : ix i q) (hqn : q < n) {x : Int32} (dec : decode cc pc = .ok (.bastore, 1))
    (kk : ∀ (H1 : Heap) (locs1 : List Loc), GI E cl w r A H0 (st2 v j q (x.toInt8.toInt32)) H1 locs1 → W p l e R s m args below meth c H1 locs1 cells slots Q (F0 m (pc + 1) ls rest)) : W p l e R s m args below meth c H locs cells slots Q (F0 m pc ls (.int x :: .int i :: .ref a :: rest)) := by
  subst ha
  have he := gw_at (E := E) (r := r) (v := v) hn
  rw [gE_arr hj] at he
  refine va_bast C.1 C.2.1 hK.1 I.1 I.2.1 I.2.2 j t he (gT_at ht) (vp_in_q hq.2 hq.1 hqn) dec (fun H1 locs1 a1 a2 a3 => ?_)
  rw [hq.2, gw_arr_set hj hn] at a1 a2
  exact kk H1 locs1 ⟨a1, a2, a3⟩
theorem g_alen (C : CallFix p m c cc nL s args lw_all own) (hK : KK E cl tl s) (I : GI E cl w r A H0 v H locs) (j : Nat) {t n : Nat} (hj : w.2.1 j = .inr (.inl (t, n)) ∨ w.2.1 j = .inr (.inr (t, n))) (hn : j < w.1) {ty : FieldType} (ht : tl[t]? = some ty) {a : Nat} (ha : w.2.2 j = a) (dec : decode cc pc = .ok (.arraylength, 1))
    (kk : W p l e R s m args below meth c H locs cells slots Q (F0 m (pc + 1) ls (.int (nI n) :: rest))) : W p l e R s m args below meth c H locs cells slots Q (F0 m pc ls (.ref a :: rest)) := by
  subst ha
  have he := gw_at (E := E) (r := r) (v := v) hn
  rcases hj with hj | hj
  · rw [gE_arr hj] at he
    exact va_alen (v := nI n) C.1 C.2.1 hK.1 I.1 j t he (gT_at ht) rfl dec kk
  · rw [gE_rarr hj] at he
    exact va_alen (v := nI n) C.1 C.2.1 hK.1 I.1 j t he (gT_at ht) rfl dec kk
theorem g_aald (C : CallFix p m c cc nL s args lw_all own) (hK : KK E cl tl s) (I : GI E cl w r A H0 v H locs) (j : Nat) {t n : Nat} (hj : w.2.1 j = .inr (.inr (t, n))) (hn : j < w.1) {ty : FieldType} (ht : tl[t]? = some ty) (hty : ty.isReference = true) {a : Nat} (ha : w.2.2 j = a) {i : Int32} {q : Nat} (hq : ix i q) (hqn : q < n) {x : Option Nat} (hx : r j q = x) (dec : decode cc pc = .ok (.aaload, 1))
    (kk : W p l e R s m args below meth c H locs cells slots Q (F0 m (pc + 1) ls (va_rf x :: rest))) : W p l e R s m args below meth c H locs cells slots Q (F0 m pc ls (.int i :: .ref a :: rest)) := by
  subst ha
  have he := gw_at (E := E) (r := r) (v := v) hn
  rw [gE_rarr hj] at he
  have hin := vp_in_q hq.2 hq.1 hqn
  have hlt : i.toNatClampNeg < n := by rw [hq.2]; exact hqn
  exact W.aald (v := va_rf x) C.1 C.2.1 (I.1 j _ he) ((hK.1.2 t _ (gT_at ht)).1 n (fun j' => va_rf (r j j'))) hty (fun q => by cases q) (by show ¬ (i < 0 ∨ (arrV _ _ _).slots.size ≤ _); rw [arrV_size]; exact hin) (by show (arrV _ _ _).slots[_]? = _; rw [arrV_read _ _ hlt, hq.2, hx]) rfl rfl dec kk
end GR
