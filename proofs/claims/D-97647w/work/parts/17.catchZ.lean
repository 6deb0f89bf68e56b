/-! ===== a caught exception at the level of the walks ===== -/
def zFN (own : String) (pc : Nat) (C : String) : List (Nat × Nat × Nat × Nat) → Nat → Prop
  | [], _ => False
  | (a, b, h, ct) :: t, r => (covers ⟨a, b, h, ct⟩ pc = true ∧ ct ≠ 0 ∧ ∃ Tn, Cond.classLink own ct Tn ∈ lw_all ∧ ((Cond.castable C Tn ∈ lw_tbl ∧ h = r) ∨ (Cond.not (Cond.castable C Tn) ∈ flatC (Jvm.Cond.and given_1 narrow_1) ∧ zFN own pc C t r))) ∨ (covers ⟨a, b, h, ct⟩ pc = false ∧ zFN own pc C t r)
theorem zFN.fits {E : zE} {s : State} {e : Env} {args : Array Value} {own C : String} {d cid pc : Nat} (hok : zOk E) (hwarm : E.1.WarmedH s.vm) (hts : ∀ w ∈ lw_all, w.before args s = true) (hown : s.vm.findClass own = some d) (hpl : e.platform.magicAccessors = ({} : Platform).magicAccessors) (hC : s.vm.findClass C = some cid) :
    ∀ (hh : List (Nat × Nat × Nat × Nat)) (r : Nat), zFN own pc C hh r → zFits s e d pc cid hh r
  | [], _, h => h.elim
  | (a, b, h9, ct) :: t, r, h => by
    rcases h with ⟨h1, h2, Tn, h3, h⟩ | ⟨h1, h⟩
    · obtain ⟨cc, hcc, hcl⟩ := Cond.classLink_spec hown (hts _ h3) e.platform hpl
      refine Or.inl ⟨h1, h2, cc, hcl, Vm.classAt_of_findClass hcc, ?_⟩
      rcases h with ⟨h4, h5⟩ | ⟨h4, h5⟩
      · obtain ⟨c3, t3, w1, w2, w3⟩ := Cond.castable_spec (zCy hok hwarm h4)
        cases hC.symm.trans w1
        cases hcc.symm.trans w2
        exact Or.inl ⟨w3, h5⟩
      · obtain ⟨c3, t3, w1, w2, w3⟩ := zNc hok hwarm h4
        cases hC.symm.trans w1
        cases hcc.symm.trans w2
        exact Or.inr ⟨w3, zFN.fits hok hwarm hts hown hpl hC t r h5⟩
    · exact Or.inr ⟨h1, zFN.fits hok hwarm hts hown hpl hC t r h⟩
theorem zP.lt {D : va_G} {w : zM} {H : Heap} (hP : zP D w H) {k : Nat} {q : Nat × va_E} (hk : w k = some q) : q.1 < H.size := by
  have h := hP k _ hk
  match q, h with
  | (a, .inl x), h => exact (Array.getElem?_eq_some_iff.mp h).1
  | (a, .inr o), h =>
    obtain ⟨r, -, cell1, g1, -⟩ := h
    exact (Array.getElem?_eq_some_iff.mp g1).1
theorem zP.more {D : va_G} {w : zM} {H H1 : Heap} (hP : zP D w H) (hkeep : ∀ a, a < H.size → H1[a]? = H[a]?) : zP D w H1 := by
  intro k q hk
  have hlt := hP.lt hk
  have h := hP k _ hk
  match q, h with
  | (a, .inl x), h => exact (hkeep a hlt).trans h
  | (a, .inr o), h =>
    obtain ⟨r, h1, h2⟩ := h
    exact ⟨r, h1, h2.kept (hkeep a hlt)⟩
section ZXW
variable {E : zE} {A : Nat → Prop} {nL : Nat} {p : Program} {l : Launch} {e : Env} {R : Room} {s : State} {m : MethodId} {args : Array Value} {below : List Frame} {meth : Method} {c : Code} {Q : State → Prop} {own : String} {hh : List (Nat × Nat × Nat × Nat)} {w : zM} {c0 s0 pc r : Nat} {lv : List (Option Value)} {st st1 : List Value} {H : Heap} {locs : List Loc} {cells slots : Nat} {ls : Array Slot}
/-- behind the making: the handler -/
theorem zx_into {C : String} {n k : Nat} (hok : zOk E) (hwarm : E.1.WarmedH s.vm) (hown : s.vm.findClass own = some m.cls) (hts : ∀ w ∈ lw_all, w.before args s = true) (hA : ∀ q, s.heap.size ≤ q → A q)
    (htb : c.exceptionTable.toList.map (fun h => (h.startPc, h.endPc, h.handlerPc, h.catchType)) = hh) (hF : zFN own pc C hh r)
    (hP : zP E.2.2.1 w H) (hI : zI w) (hN : zIn A w) (hS : va_S A s.heap H locs) (hc : cells ≤ c0) (hs : slots ≤ s0) (hl : lv_has ls nL (zl 0 lv))
    {U : State} {L : List Loc} {cell : Cell} {a : Nat} {cells' slots' : Nat} (hc' : cells' ≤ c0 + k) (hs' : slots' ≤ s0 + n) (XU : Stand p l e R s m args below meth c U (locs ++ L) cells' slots') (hL : ∀ q ∈ L, H.size ≤ q.base) (hsz : H.size ≤ U.heap.size) (hkeep : ∀ a, a < H.size → U.heap[a]? = H[a]?)
    (ha : U.heap[a]? = some cell) (hcls : s.vm.findClass C = some cell.cls) (hvm : cell.vm = .none)
    (h : ∀ q, Z (E, A, nL, p, l, e, R, s, m, args, below, meth, c, Q) w (c0 + k) (s0 + n) r lv [.ref q]) :
    ∃ t, Steps p.tables e below ((U.setTop (F0 m pc ls st1)).pushFrame (.throwing a)) t ∧ Q t := by
  have hpl : e.platform.magicAccessors = ({} : Platform).magicAccessors := by rw [XU.admits.platform]
  obtain ⟨vm', hW', st⟩ := zx_catch XU (g := F0 m pc ls st1) rfl (a := a) (cell := cell) (r := r) (fun k => by rw [hvm]; intro h; cases h) (Vm.classAt_of_findClass hcls) ha (by rw [htb]; exact zFN.fits hok hwarm hts hown hpl hcls hh r hF)
  obtain ⟨t, a1, b1⟩ := h a U.heap (locs ++ L) cells' slots' ls (hP.more hkeep) hI hN
    ⟨Nat.le_trans hS.1 hsz, fun q h1 h2 => by rw [hkeep q (Nat.lt_of_lt_of_le h1 hS.1)]; exact hS.2.1 q h1 h2, fun q hq => by
      rcases List.mem_append.mp hq with h | h
      · exact hS.2.2 q h
      · exact hA _ (Nat.le_trans hS.1 (hL q h))⟩ hc' hs' hl (U.setVm vm') rfl (XU.noted hW')
  exact ⟨t, st t a1, b1⟩
end ZXW
