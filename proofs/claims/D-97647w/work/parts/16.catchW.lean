/-! the words that the making asks, at the method's own state -/
def zxKd (a : Cond) : Bool := decide (a ∈ lw_all) || ((decide (a ∈ lw_tbl) && (a.keepsCast && a.onTables)) || (match a with | .laysStatic _ _ _ => decide (a ∈ lw_tbl) | .isRef (.static _ _ _) => decide (a ∈ flatC (Jvm.Cond.and given_1 narrow_1)) | _ => false))
theorem zx_word {E : zE} {s : State} {args : Array Value} (hok : zOk E) (hwarm : E.1.WarmedH s.vm) (hts : ∀ w ∈ lw_all, w.before args s = true) (hold : zOld E s.heap) {a : Cond} (h : zxKd a = true) : a.before args s = true := by
  have hH : ∀ (q : Nat) (cell : Cell), E.1.heap[q]? = some cell → s.heap[q]? = some cell := fun q cell hq => (hold.2 q (Array.getElem?_eq_some_iff.mp hq).1).trans hq
  simp only [zxKd, Bool.or_eq_true, Bool.and_eq_true, decide_eq_true_eq] at h
  rcases h with h | ⟨h, h1, h2⟩ | h
  · exact hts _ h
  · exact va_tabs h2 (rfl : (E.1.setVm s.vm).vm = s.vm) (Cond.before_shiftedCast (State.Shifted.of_warmed hwarm) a h1 (hok.1 _ h))
  · match a, h with
    | .laysStatic O n d, h =>
      obtain ⟨c, k, i, f, q, cell, hc, hi, hst, ha, hcell, hs, hcls, hlt, hty⟩ := Cond.laysStatic_spec (Cond.laysStatic_setVm hwarm.alike (hok.1 _ (of_decide_eq_true h)))
      exact Cond.laysStatic_of (s := s) hc hi hst ha (hH _ _ hcell) hs hcls hlt hty
    | .isRef (.static O n d), h =>
      have h0 := flat_of_before _ hok.2.1 _ (of_decide_eq_true h)
      have h1 : (Cond.isRef (.static O n d)).value #[Value.ref E.2.1] (E.1.setVm s.vm) none (E.1.setVm s.vm) [] = some true := by
        have := Cond.value_setVm (args := #[Value.ref E.2.1]) (o := none) hwarm.alike (Cond.isRef (.static O n d)) [] rfl
        simp only [Cond.before, Cond.holds] at h0
        rw [this]
        cases hq : (Cond.isRef (.static O n d)).value #[Value.ref E.2.1] E.1 none E.1 [] with
        | none => rw [hq] at h0; cases h0
        | some b => rw [hq] at h0; cases b; · cases h0
                    · rfl
      simp only [Cond.before, Cond.holds]
      simp only [Cond.value, Term.eval] at h1 ⊢
      have e1 : s.fieldNamed? O n d true = (E.1.setVm s.vm).fieldNamed? O n d true := rfl
      rw [e1]
      cases hf : (E.1.setVm s.vm).fieldNamed? O n d true with
      | none => simp [hf] at h1
      | some y =>
        obtain ⟨c, k, slot⟩ := y
        cases hk : k.statics with
        | none => simp [hf, hk] at h1
        | some q =>
          cases hq : E.1.heap[q]? with
          | none => simp [hf, hk, hq] at h1
          | some cell =>
            simp [hf, hk, hq] at h1
            simp [hf, hk, hH _ _ hq, h1]
theorem zx_npeW : ∀ a ∈ Bundle.npeArmAtoms 8, zxKd a = true := List.all_eq_true.mp (by decide +kernel)
theorem zx_wNegativeArraySizeException : ∀ a ∈ Bundle.messageArmAtoms "java/lang/NegativeArraySizeException" ["java/lang/RuntimeException", "java/lang/Exception"], zxKd a = true := List.all_eq_true.mp (by decide +kernel)
theorem zx_wArrayIndexOutOfBoundsException : ∀ a ∈ Bundle.messageArmAtoms "java/lang/ArrayIndexOutOfBoundsException" ["java/lang/IndexOutOfBoundsException", "java/lang/RuntimeException", "java/lang/Exception"], zxKd a = true := List.all_eq_true.mp (by decide +kernel)
theorem zx_wArithmeticException : ∀ a ∈ Bundle.messageArmAtoms "java/lang/ArithmeticException" ["java/lang/RuntimeException", "java/lang/Exception"], zxKd a = true := List.all_eq_true.mp (by decide +kernel)
theorem zx_wClassCastException : ∀ a ∈ Bundle.messageArmAtoms "java/lang/ClassCastException" ["java/lang/RuntimeException", "java/lang/Exception"], zxKd a = true := List.all_eq_true.mp (by decide +kernel)
