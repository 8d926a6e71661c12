/-! branches behind lcmp -/
set_option maxRecDepth 100000
theorem lg_cmp_c (x y : Int64) : (x.toInt < y.toInt ∧ lg_cmp x y = -1) ∨ (x.toInt = y.toInt ∧ lg_cmp x y = 0) ∨ (y.toInt < x.toInt ∧ lg_cmp x y = 1) := by
  have h1 : (y < x) ↔ y.toInt < x.toInt := Int64.lt_iff_toInt_lt
  have h3 : (x < y) ↔ x.toInt < y.toInt := Int64.lt_iff_toInt_lt
  have h2 : (x = y) ↔ x.toInt = y.toInt := Int64.toInt_inj.symm
  by_cases c1 : y < x
  · exact Or.inr (Or.inr ⟨h1.mp c1, by simp [lg_cmp, c1]⟩)
  · by_cases c2 : x = y
    · refine Or.inr (Or.inl ⟨h2.mp c2, ?_⟩)
      subst c2
      simp [lg_cmp]
    · refine Or.inl ⟨?_, ?_⟩
      · rw [h1] at c1; rw [h2] at c2; omega
      · have c4 : ¬ y.toInt < x.toInt := fun q => c1 (h1.mpr q)
        have c5 : ¬ x.toInt = y.toInt := fun q => c2 (h2.mpr q)
        have c3 : x < y := h3.mpr (by omega)
        simp [lg_cmp, c1, c2, c3]
section CR
variable {p : Program} {l : Launch} {e : Env} {R : Room} {s : State} {m : MethodId} {args : Array Value} {below : List Frame} {meth : Method} {c : Code} {H : Heap} {locs : List Loc} {cells slots : Nat} {Q : State → Prop}
variable {cc : ByteArray} {pc nL : Nat} {ls : Array Slot} {rest : List Value} {own : String} {x y : Int64} {tgt : Nat} {off : Int}
theorem c_if_eq (C : CallFix p m c cc nL s args lw_all own) (dec : decode cc pc = .ok (.ifCond .eq off, 3)) (ht : (pc : Int) + off = (tgt : Int)) (kt : x.toInt = y.toInt → W p l e R s m args below meth c H locs cells slots Q (F0 m (tgt) ls (rest))) (kf : x.toInt ≠ y.toInt → W p l e R s m args below meth c H locs cells slots Q (F0 m (pc + 3) ls (rest))) : W p l e R s m args below meth c H locs cells slots Q (F0 m (pc) ls (.int (lg_cmp x y) :: rest)) := by
  rcases lg_cmp_c x y with ⟨h, q⟩ | ⟨h, q⟩ | ⟨h, q⟩
  · rw [q]; exact lv_if_eq C.1 C.2.1 dec ht (fun z => kt (by revert z; first | (intro _; omega) | exact (fun z => absurd z (by decide)))) (fun z => kf (by revert z; first | (intro _; omega) | exact (fun z => absurd z (by decide)) | exact (fun z => absurd (by decide) z)))
  · rw [q]; exact lv_if_eq C.1 C.2.1 dec ht (fun z => kt (by revert z; first | (intro _; omega) | exact (fun z => absurd z (by decide)))) (fun z => kf (by revert z; first | (intro _; omega) | exact (fun z => absurd z (by decide)) | exact (fun z => absurd (by decide) z)))
  · rw [q]; exact lv_if_eq C.1 C.2.1 dec ht (fun z => kt (by revert z; first | (intro _; omega) | exact (fun z => absurd z (by decide)))) (fun z => kf (by revert z; first | (intro _; omega) | exact (fun z => absurd z (by decide)) | exact (fun z => absurd (by decide) z)))
theorem c_if_ne (C : CallFix p m c cc nL s args lw_all own) (dec : decode cc pc = .ok (.ifCond .ne off, 3)) (ht : (pc : Int) + off = (tgt : Int)) (kt : x.toInt ≠ y.toInt → W p l e R s m args below meth c H locs cells slots Q (F0 m (tgt) ls (rest))) (kf : x.toInt = y.toInt → W p l e R s m args below meth c H locs cells slots Q (F0 m (pc + 3) ls (rest))) : W p l e R s m args below meth c H locs cells slots Q (F0 m (pc) ls (.int (lg_cmp x y) :: rest)) := by
  rcases lg_cmp_c x y with ⟨h, q⟩ | ⟨h, q⟩ | ⟨h, q⟩
  · rw [q]; exact lv_if_ne C.1 C.2.1 dec ht (fun z => kt (by revert z; first | (intro _; omega) | exact (fun z => absurd z (by decide)))) (fun z => kf (by revert z; first | (intro _; omega) | exact (fun z => absurd z (by decide)) | exact (fun z => absurd (by decide) z)))
  · rw [q]; exact lv_if_ne C.1 C.2.1 dec ht (fun z => kt (by revert z; first | (intro _; omega) | exact (fun z => absurd z (by decide)))) (fun z => kf (by revert z; first | (intro _; omega) | exact (fun z => absurd z (by decide)) | exact (fun z => absurd (by decide) z)))
  · rw [q]; exact lv_if_ne C.1 C.2.1 dec ht (fun z => kt (by revert z; first | (intro _; omega) | exact (fun z => absurd z (by decide)))) (fun z => kf (by revert z; first | (intro _; omega) | exact (fun z => absurd z (by decide)) | exact (fun z => absurd (by decide) z)))
theorem c_if_lt (C : CallFix p m c cc nL s args lw_all own) (dec : decode cc pc = .ok (.ifCond .lt off, 3)) (ht : (pc : Int) + off = (tgt : Int)) (kt : x.toInt < y.toInt → W p l e R s m args below meth c H locs cells slots Q (F0 m (tgt) ls (rest))) (kf : y.toInt ≤ x.toInt → W p l e R s m args below meth c H locs cells slots Q (F0 m (pc + 3) ls (rest))) : W p l e R s m args below meth c H locs cells slots Q (F0 m (pc) ls (.int (lg_cmp x y) :: rest)) := by
  rcases lg_cmp_c x y with ⟨h, q⟩ | ⟨h, q⟩ | ⟨h, q⟩
  · rw [q]; exact lv_if_lt C.1 C.2.1 dec ht (fun z => kt (by revert z; first | (intro _; omega) | exact (fun z => absurd z (by decide)))) (fun z => kf (by revert z; first | (intro _; omega) | exact (fun z => absurd z (by decide)) | exact (fun z => absurd (by decide) z)))
  · rw [q]; exact lv_if_lt C.1 C.2.1 dec ht (fun z => kt (by revert z; first | (intro _; omega) | exact (fun z => absurd z (by decide)))) (fun z => kf (by revert z; first | (intro _; omega) | exact (fun z => absurd z (by decide)) | exact (fun z => absurd (by decide) z)))
  · rw [q]; exact lv_if_lt C.1 C.2.1 dec ht (fun z => kt (by revert z; first | (intro _; omega) | exact (fun z => absurd z (by decide)))) (fun z => kf (by revert z; first | (intro _; omega) | exact (fun z => absurd z (by decide)) | exact (fun z => absurd (by decide) z)))
theorem c_if_ge (C : CallFix p m c cc nL s args lw_all own) (dec : decode cc pc = .ok (.ifCond .ge off, 3)) (ht : (pc : Int) + off = (tgt : Int)) (kt : y.toInt ≤ x.toInt → W p l e R s m args below meth c H locs cells slots Q (F0 m (tgt) ls (rest))) (kf : x.toInt < y.toInt → W p l e R s m args below meth c H locs cells slots Q (F0 m (pc + 3) ls (rest))) : W p l e R s m args below meth c H locs cells slots Q (F0 m (pc) ls (.int (lg_cmp x y) :: rest)) := by
  rcases lg_cmp_c x y with ⟨h, q⟩ | ⟨h, q⟩ | ⟨h, q⟩
  · rw [q]; exact lv_if_ge C.1 C.2.1 dec ht (fun z => kt (by revert z; first | (intro _; omega) | exact (fun z => absurd z (by decide)))) (fun z => kf (by revert z; first | (intro _; omega) | exact (fun z => absurd z (by decide)) | exact (fun z => absurd (by decide) z)))
  · rw [q]; exact lv_if_ge C.1 C.2.1 dec ht (fun z => kt (by revert z; first | (intro _; omega) | exact (fun z => absurd z (by decide)))) (fun z => kf (by revert z; first | (intro _; omega) | exact (fun z => absurd z (by decide)) | exact (fun z => absurd (by decide) z)))
  · rw [q]; exact lv_if_ge C.1 C.2.1 dec ht (fun z => kt (by revert z; first | (intro _; omega) | exact (fun z => absurd z (by decide)))) (fun z => kf (by revert z; first | (intro _; omega) | exact (fun z => absurd z (by decide)) | exact (fun z => absurd (by decide) z)))
theorem c_if_gt (C : CallFix p m c cc nL s args lw_all own) (dec : decode cc pc = .ok (.ifCond .gt off, 3)) (ht : (pc : Int) + off = (tgt : Int)) (kt : y.toInt < x.toInt → W p l e R s m args below meth c H locs cells slots Q (F0 m (tgt) ls (rest))) (kf : x.toInt ≤ y.toInt → W p l e R s m args below meth c H locs cells slots Q (F0 m (pc + 3) ls (rest))) : W p l e R s m args below meth c H locs cells slots Q (F0 m (pc) ls (.int (lg_cmp x y) :: rest)) := by
  rcases lg_cmp_c x y with ⟨h, q⟩ | ⟨h, q⟩ | ⟨h, q⟩
  · rw [q]; exact lv_if_gt C.1 C.2.1 dec ht (fun z => kt (by revert z; first | (intro _; omega) | exact (fun z => absurd z (by decide)))) (fun z => kf (by revert z; first | (intro _; omega) | exact (fun z => absurd z (by decide)) | exact (fun z => absurd (by decide) z)))
  · rw [q]; exact lv_if_gt C.1 C.2.1 dec ht (fun z => kt (by revert z; first | (intro _; omega) | exact (fun z => absurd z (by decide)))) (fun z => kf (by revert z; first | (intro _; omega) | exact (fun z => absurd z (by decide)) | exact (fun z => absurd (by decide) z)))
  · rw [q]; exact lv_if_gt C.1 C.2.1 dec ht (fun z => kt (by revert z; first | (intro _; omega) | exact (fun z => absurd z (by decide)))) (fun z => kf (by revert z; first | (intro _; omega) | exact (fun z => absurd z (by decide)) | exact (fun z => absurd (by decide) z)))
theorem c_if_le (C : CallFix p m c cc nL s args lw_all own) (dec : decode cc pc = .ok (.ifCond .le off, 3)) (ht : (pc : Int) + off = (tgt : Int)) (kt : x.toInt ≤ y.toInt → W p l e R s m args below meth c H locs cells slots Q (F0 m (tgt) ls (rest))) (kf : y.toInt < x.toInt → W p l e R s m args below meth c H locs cells slots Q (F0 m (pc + 3) ls (rest))) : W p l e R s m args below meth c H locs cells slots Q (F0 m (pc) ls (.int (lg_cmp x y) :: rest)) := by
  rcases lg_cmp_c x y with ⟨h, q⟩ | ⟨h, q⟩ | ⟨h, q⟩
  · rw [q]; exact lv_if_le C.1 C.2.1 dec ht (fun z => kt (by revert z; first | (intro _; omega) | exact (fun z => absurd z (by decide)))) (fun z => kf (by revert z; first | (intro _; omega) | exact (fun z => absurd z (by decide)) | exact (fun z => absurd (by decide) z)))
  · rw [q]; exact lv_if_le C.1 C.2.1 dec ht (fun z => kt (by revert z; first | (intro _; omega) | exact (fun z => absurd z (by decide)))) (fun z => kf (by revert z; first | (intro _; omega) | exact (fun z => absurd z (by decide)) | exact (fun z => absurd (by decide) z)))
  · rw [q]; exact lv_if_le C.1 C.2.1 dec ht (fun z => kt (by revert z; first | (intro _; omega) | exact (fun z => absurd z (by decide)))) (fun z => kf (by revert z; first | (intro _; omega) | exact (fun z => absurd z (by decide)) | exact (fun z => absurd (by decide) z)))
end CR
