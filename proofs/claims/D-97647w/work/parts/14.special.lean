theorem zst_q {L L' : List (Option Value)} {j : Nat} {v : Value} {o : Option Nat} (h : L[j]? = some (some (va_rf o))) (h2 : L.set (j + 1) (some v) = L') : zst L (j + 1) v = L' := by
  subst h2
  unfold zst zclr
  dsimp only
  rw [h]
  cases o <;> rfl
theorem zst2_q {L L' : List (Option Value)} {j : Nat} {v : Value} {o : Option Nat} (h : L[j]? = some (some (va_rf o))) (h2 : (L.set (j + 1) (some v)).set (j + 2) none = L') : zst2 L (j + 1) v = L' := by
  subst h2
  unfold zst2 zclr
  dsimp only
  rw [h]
  cases o <;> rfl
def jmax (x y : Int32) : Int32 := if x < y then y else x
def jmin (x y : Int32) : Int32 := if y < x then y else x
theorem z_mmax {Y : zC} {E0 : zE} {cc : ByteArray} {nL0 : Nat} {own : String} {R0 : Room} (G : zG Y E0 cc nL0 own R0) {w : zM} {c0 s0 pc : Nat} {lv : List (Option Value)} {st : List Value} {index : Nat} {x y : Int32} (hq : Cond.methodLink own index Lib.Math.max.name ∈ lw_all) (hframes : 1 ≤ R0.frames) (hlocals : (st.map fun v => v.category).sum + 13 ≤ R0.locals) (hc0 : c0 ≤ R0.cells) (hs0 : s0 ≤ R0.slots) (hd : decode cc pc = .ok (.invokestatic index, 3)) (h : Z Y w c0 s0 (pc + 3) lv (.int (jmax x y) :: st)) : Z Y w c0 s0 pc lv (.int y :: .int x :: st) := by
  obtain ⟨E, A, nL, p, l, e, R, s, m, args, below, meth, c, Q⟩ := Y
  obtain ⟨rfl, rfl, rfl, hok, hwarm, hx, hb, hml, hown, hts, hA, hold, hlk, htr0⟩ := G
  intro H locs cells slots ls hP hI hN hS hc hs hl
  exact va_mmax hx hb (by rw [hml]; exact hl.1.symm) hown (hts _ hq) (hts _ q726) (hts _ q110) (hts _ q727) hframes hlocals (Nat.le_trans hc hc0) (Nat.le_trans hs hs0) hd (h H locs cells slots ls hP hI hN hS hc hs hl)
theorem z_mmin {Y : zC} {E0 : zE} {cc : ByteArray} {nL0 : Nat} {own : String} {R0 : Room} (G : zG Y E0 cc nL0 own R0) {w : zM} {c0 s0 pc : Nat} {lv : List (Option Value)} {st : List Value} {index : Nat} {x y : Int32} (hq : Cond.methodLink own index Lib.Math.min.name ∈ lw_all) (hframes : 1 ≤ R0.frames) (hlocals : (st.map fun v => v.category).sum + 13 ≤ R0.locals) (hc0 : c0 ≤ R0.cells) (hs0 : s0 ≤ R0.slots) (hd : decode cc pc = .ok (.invokestatic index, 3)) (h : Z Y w c0 s0 (pc + 3) lv (.int (jmin x y) :: st)) : Z Y w c0 s0 pc lv (.int y :: .int x :: st) := by
  obtain ⟨E, A, nL, p, l, e, R, s, m, args, below, meth, c, Q⟩ := Y
  obtain ⟨rfl, rfl, rfl, hok, hwarm, hx, hb, hml, hown, hts, hA, hold, hlk, htr0⟩ := G
  intro H locs cells slots ls hP hI hN hS hc hs hl
  exact va_mmin hx hb (by rw [hml]; exact hl.1.symm) hown (hts _ hq) (hts _ q644) (hts _ q110) (hts _ q645) hframes hlocals (Nat.le_trans hc hc0) (Nat.le_trans hs hs0) hd (h H locs cells slots ls hP hI hN hS hc hs hl)
/-- a call that lands in an interface's default method: which method is selected, by the start's word -/
theorem z_lands {E : zE} {s : State} (hok : zOk E) (hwarm : E.1.WarmedH s.vm) {C : String} {x0 y : MethodName} (hdef : Cond.landsInDefault C x0 y ∈ flatC (Jvm.Cond.and given_1 narrow_1)) {r0 mk : MethodId} {cB : ClassId} (hcB : s.vm.findClass C = some cB) (hfound : s.methodFound? x0.cls x0.name x0.desc = some r0) (hn : s.methodNamed? y = some mk)
    (hfd : ∀ r, E.1.methodFound? x0.cls x0.name x0.desc = some r → r = r0) : selectMethod {} s.vm cB r0 = .method mk := by
  have h := flat_of_before _ hok.2.1 _ hdef
  simp only [Cond.before, Cond.holds, Cond.value] at h
  have e1 : E.1.vm.findClass C = some cB := by rw [← hwarm.alike.findClass]; exact hcB
  have e3 : E.1.methodNamed? y = some mk := by
    have := State.methodNamed?_setVm (s := E.1) (vm' := s.vm) hwarm.alike y
    rw [← this]
    exact hn
  rw [e1, e3] at h
  cases hr : E.1.methodFound? x0.cls x0.name x0.desc with
  | none => rw [hr] at h; simp at h
  | some r =>
    have hrr := hfd r hr
    subst hrr
    rw [hr] at h
    cases hm : E.1.vm.method? r with
    | none => simp [hm] at h
    | some rm =>
      simp only [hm, Option.map_some] at h
      rw [hwarm.alike.selectMethod]
      cases hsel : selectMethod {} E.1.vm cB r with
      | method m' =>
        simp [hsel] at h
        rw [h.1.1.1.1]
      | _ => simp [hsel] at h
theorem z_callDef {Y : zC} {E0 : zE} {cc : ByteArray} {nL0 : Nat} {own : String} {R0 : Room} (G : zG Y E0 cc nL0 own R0) {w : zM} {c0 s0 pc : Nat} {lv : List (Option Value)} {st : List Value} {C : String} {Tt : u_T} {Nn ci id b count : Nat} {fs : List Value} (hF : Cond.unhidden C "other" "()I" ∈ lw_tbl ∧ Cond.castable C RX8 ∈ lw_tbl) (hdef : Cond.landsInDefault C yX8_other yX8_other ∈ flatC (Jvm.Cond.and given_1 narrow_1)) (hframes : 1 ≤ R0.frames) (hlocals : (st.map fun v => v.category).sum + 12 ≤ R0.locals) (hcl : zCl[ci]? = some (C, Tt, Nn)) (hw : w id = some (b, .inr (ci, fs))) (hlk9 : Cond.methodLink own 193 yX8_other ∈ lw_all) (hd : decode cc pc = .ok (.invokeinterface 193 count, 5)) (h : Z Y w c0 s0 (pc + 5) lv (.int (-9) :: st)) : Z Y w c0 s0 pc lv (.ref b :: st) := by
  obtain ⟨E, A, nL, p, l, e, R, s, m, args, below, meth, c, Q⟩ := Y
  obtain ⟨rfl, rfl, rfl, hok, hwarm, hx, hb, hml, hown, hts, hA, hold, hlk, htr0⟩ := G
  intro H locs cells slots ls hP hI hN hS hc hs hl
  have hMH : yX8_other.cls ≠ "java/lang/invoke/MethodHandle" ∧ yX8_other.cls ≠ "java/lang/invoke/VarHandle" := by decide
  have hFw : va_Fw C yX8_other yX8_other s := va_Fw.moved hMH hwarm.alike (va_Fw.of (hok.1 _ q587) (hok.1 _ q586) (hok.1 _ q600) (hok.1 _ hF.1) (hok.1 _ hF.2))
  obtain ⟨hdecl, hface, hpub, hunh, hcast⟩ := hFw
  obtain ⟨cellB, hcB, hoB, hclB⟩ := va_recv (zK hok hwarm) (hP.one hw) hcl (q0 := 0) rfl
  obtain ⟨hfc, kB, hkB, -⟩ := ((zK hok hwarm).1 ci _ hcl).2
  have hcc := Option.some.inj (hfc.symm.trans hclB)
  rw [hcc] at hkB
  intro T hT X
  obtain ⟨r0, r, hn0, hrm, hstR, hsigR⟩ := Cond.declares_spec hdecl
  obtain ⟨cL, kL, r1, hcL, hkL, hiL, hfoundL, hn1⟩ := Cond.interfaceMethod_spec hface
  cases hn0.symm.trans hn1
  have hr0cls : r0.cls = cL := Option.some.inj ((findClass_of_methodNamed hn0).symm.trans hcL)
  obtain ⟨hnameR, hdescR⟩ := name_of_methodNamed hn0 hrm
  obtain ⟨mk, methM, hnamed, hmethM, -, habM⟩ := Cond.instanceMethod_spec (hts _ q599)
  obtain ⟨methM', cM, hmethM', hcM, hbM, hlM, hrM, hlkM, -, hsigM⟩ := Cond.code_spec hnamed (hts _ q601)
  cases hmethM.symm.trans hmethM'
  obtain ⟨kP, hkP, hnP⟩ := className_of_methodNamed hnamed
  have hsel0 : selectMethod {} s.vm cellB.cls r0 = .method mk := z_lands hok hwarm hdef hclB hfoundL hnamed (fun r2 hr2 => by
    obtain ⟨cL2, kL2, r3, hcL2, hkL2, hiL2, hfoundL2, hn2⟩ := Cond.interfaceMethod_spec (hok.1 _ q586)
    have e4 : s.methodNamed? yX8_other = some r3 := (State.methodNamed?_setVm (s := E.1) (vm' := s.vm) hwarm.alike yX8_other).trans hn2
    have e5 : r3 = r2 := Option.some.inj (hfoundL2.symm.trans hr2)
    exact e5.symm.trans (Option.some.inj (e4.symm.trans hn0)))
  have hselP : selectMethod e.platform s.vm cellB.cls r0 = .method mk := by rw [Launch.admits_selectMethod X.admits]; exact hsel0
  have hpubM : hasFlag methM.accessFlags Acc.public_ = true := Cond.publicMethod_spec hnamed hmethM hpub
  have hway : ((cellB.cls :: s.vm.superclasses cellB.cls).any fun k => (declaredIn s.vm r.name r.desc k).any fun (_, z) => z.isPrivate || z.isStatic) = false := by
    rw [hnameR, hdescR]; exact Cond.unhidden_spec hclB hunh
  obtain ⟨c3, t3, w1, w2, w3⟩ := Cond.castable_spec hcast
  cases hclB.symm.trans w1
  cases hcL.symm.trans w2
  have hsg : parseMethodDescriptor yX8_other.desc = some { parameters := [], returnType := some .int } := by decide +kernel
  have hps : r.sig = { parameters := [], returnType := some .int } := (Option.some.inj (hsg.symm.trans hsigR)).symm
  obtain ⟨vm₁, X₁, hstep₁⟩ := X.invokeinterface hx hown (hts _ hlk9) hn0 hrm hstR (by rw [hr0cls]; exact hkL) hiL hMH (a := b) (cell := cellB) (kcell := kB) (by rw [hT]; exact hcB)
    (fun z h => by rw [h] at hoB; cases hoB) hkB (by rw [hr0cls]; exact w3) hselP hmethM hway hpubM habM (g := F0 m pc ls (.ref b :: st)) rfl (argsL := []) (rest := st) (by rw [hps]; rfl) rfl (by rw [hb]; exact hd)
  obtain ⟨t, a9, b9⟩ := h H locs cells slots ls hP hI hN hS hc hs hl (T.setVm vm₁) hT X₁
  refine ⟨t, hstep₁ _ fun acts => ?_, b9⟩
  have hmM' : (T.setVm vm₁).vm.method? mk = some methM := by rw [X₁.warmed.alike.method?]; exact hmethM
  have hplain : (T.setVm vm₁).plainMethod mk := State.WarmedH.plainAt X₁.warmed (fun k hk => by
    cases hkP.symm.trans hk
    rw [hnP]
    decide)
  have hroom := X₁.notFull (g := F0 m pc ls st) (vars := cM.maxLocals) (by rw [hml]; exact hl.1) hframes (by rw [hlM]; show 2 * 0 + (st.map fun v => v.category).sum + 12 ≤ R.locals; omega)
  show Steps p.tables e below (doInvoke e ((T.setVm vm₁).setTop (F0 m pc ls st)) acts mk #[.ref b]).1 t
  rw [doInvoke_enter (g := F0 m pc ls st) X₁.here.top acts hmM' hcM hlkM hroom]
  have hAt := At.enter (s := T.setVm vm₁) (g := F0 m pc ls st) X₁.here #[.ref b] hmM' hcM hplain
  have hf := frames_entered (s := T.setVm vm₁) (g := F0 m pc ls st) X₁.here.top (.java (entryFrame mk #[.ref b] cM.maxLocals))
  obtain ⟨U, hU⟩ : ∃ U, U = ((T.setVm vm₁).setTop (F0 m pc ls st)).pushFrame (.java (entryFrame mk #[.ref b] cM.maxLocals)) := ⟨_, rfl⟩
  rw [← hU] at hAt hf ⊢
  have hE0 : entryFrame mk #[.ref b] cM.maxLocals = F0 mk 0 _ [] := lg_entry_eq mk [.ref b] cM.maxLocals
  rw [hE0]
  have hbM : cM.code = cX8_other := hbM
  have hmU : U.vm.method? mk = some methM := by rw [hU]; simpa [State.pushFrame, State.setFrames] using hmM'
  have hcU : U.code? m = some c := by
    have := X₁.here.code
    rw [hU]
    rw [State.code?_eq] at this ⊢
    simpa [State.pushFrame, State.setFrames] using this
  jvm_step hAt [hAt.top, hx, hbM, dX8_other_0]
  jvm_step hAt [hAt.top, hx, hbM, dX8_other_2, hmU, hrM, narrow]
  (try refine ⟨rfl, ?_⟩); (try refine ⟨rfl, ?_⟩)
  intro acts'
  rw [doReturn_leave (g := F0 m pc ls st) (meth := methM) (cg := c) (ig := .invokeinterface 193 count) (len := 5) acts' hf hmU hlkM rfl rfl hcU (by rw [hb]; exact hd), hU, setFrames_entered X₁.here.top, State.setTop_setTop]
  exact a9
theorem zNc {E : zE} {s : State} (hok : zOk E) (hwarm : E.1.WarmedH s.vm) {C T : String} (h : Cond.not (Cond.castable C T) ∈ flatC (Jvm.Cond.and given_1 narrow_1)) : va_Nc C T s := va_Nc.moved hwarm.alike (va_Nc.of (flat_of_before _ hok.2.1 _ h))
theorem zCy {E : zE} {s : State} (hok : zOk E) (hwarm : E.1.WarmedH s.vm) {C T : String} (h : Cond.castable C T ∈ lw_tbl) : va_Nw (.castable C T) s := va_Nw.warmC hwarm (va_Nw.of rfl (hok.1 _ h))
theorem qn_0_X3 : Cond.not (Cond.castable "NeitherBare$Clause" "NeitherBare$Neither") ∈ flatC (Jvm.Cond.and given_1 narrow_1) := by decide +kernel
theorem qn_2_X3 : Cond.not (Cond.castable "NeitherBare$Both" "NeitherBare$Neither") ∈ flatC (Jvm.Cond.and given_1 narrow_1) := by decide +kernel
theorem qn_3_X3 : Cond.not (Cond.castable "NeitherBare$Undone" "NeitherBare$Neither") ∈ flatC (Jvm.Cond.and given_1 narrow_1) := by decide +kernel
theorem qn_5_X3 : Cond.not (Cond.castable "NeitherBare$But" "NeitherBare$Neither") ∈ flatC (Jvm.Cond.and given_1 narrow_1) := by decide +kernel
theorem zX_iX3 {Y : zC} {E0 : zE} {cc : ByteArray} {nL0 : Nat} {R0 : Room} (G : zG Y E0 cc nL0 RX0 R0) {al : Nat → Nat} {x : zS} {c k c0 s0 pc : Nat} {lv : List (Option Value)} {st : List Value} (hcl : zCla c) (hk : x.2.2 c = some k) (hk6 : k < 6) (hd : decode cc pc = .ok (.instanceof 102, 3)) (h : Z Y (wX E0.2.2.2 al x) c0 s0 (pc + 3) lv (.int (if k = 1 ∨ k = 4 then (1 : Int32) else 0) :: st)) : Z Y (wX E0.2.2.2 al x) c0 s0 pc lv (.ref (al c) :: st) := by
  have hw := wX_cla (d := E0.2.2.2) (al := al) hcl hk
  obtain ⟨E, A, nL, p, l, e, R, s, m, args, below, meth, c, Q⟩ := Y
  obtain ⟨rfl, rfl, rfl, hok, hwarm, hx, hb, hml, hown, hts, hA, hold, hlk, htr0⟩ := G
  intro H locs cells slots ls hP hI hN hS hc hs hl
  have hK := zK hok hwarm
  match k, hk6 with
  | 0, _ => exact va_instNo hx hb hown (hts _ q471) (zNc hok hwarm qn_0_X3) (va_recv hK (hP.one hw) (ci := 2) (q := zCl[2]) rfl (q0 := 0) rfl) hd (h H locs cells slots ls hP hI hN hS hc hs hl)
  | 1, _ => exact va_instS hx hb hown (hts _ q471) (hK.1 3 zCl[3] rfl).2 (va_recv hK (hP.one hw) (ci := 3) (q := zCl[3]) rfl (q0 := 0) rfl) hd (h H locs cells slots ls hP hI hN hS hc hs hl)
  | 2, _ => exact va_instNo hx hb hown (hts _ q471) (zNc hok hwarm qn_2_X3) (va_recv hK (hP.one hw) (ci := 4) (q := zCl[4]) rfl (q0 := 0) rfl) hd (h H locs cells slots ls hP hI hN hS hc hs hl)
  | 3, _ => exact va_instNo hx hb hown (hts _ q471) (zNc hok hwarm qn_3_X3) (va_recv hK (hP.one hw) (ci := 5) (q := zCl[5]) rfl (q0 := 0) rfl) hd (h H locs cells slots ls hP hI hN hS hc hs hl)
  | 4, _ => exact va_instY hx hb hown (hts _ q471) (zCy hok hwarm q1552) (va_recv hK (hP.one hw) (ci := 6) (q := zCl[6]) rfl (q0 := 0) rfl) hd (h H locs cells slots ls hP hI hN hS hc hs hl)
  | 5, _ => exact va_instNo hx hb hown (hts _ q471) (zNc hok hwarm qn_5_X3) (va_recv hK (hP.one hw) (ci := 7) (q := zCl[7]) rfl (q0 := 0) rfl) hd (h H locs cells slots ls hP hI hN hS hc hs hl)
  | k + 6, hk6 => exact absurd hk6 (by omega)
theorem qn_0_X4 : Cond.not (Cond.castable "NeitherBare$Clause" "NeitherBare$Both") ∈ flatC (Jvm.Cond.and given_1 narrow_1) := by decide +kernel
theorem qn_1_X4 : Cond.not (Cond.castable "NeitherBare$Neither" "NeitherBare$Both") ∈ flatC (Jvm.Cond.and given_1 narrow_1) := by decide +kernel
theorem qn_3_X4 : Cond.not (Cond.castable "NeitherBare$Undone" "NeitherBare$Both") ∈ flatC (Jvm.Cond.and given_1 narrow_1) := by decide +kernel
theorem qn_4_X4 : Cond.not (Cond.castable "NeitherBare$Half" "NeitherBare$Both") ∈ flatC (Jvm.Cond.and given_1 narrow_1) := by decide +kernel
theorem zX_iX4 {Y : zC} {E0 : zE} {cc : ByteArray} {nL0 : Nat} {R0 : Room} (G : zG Y E0 cc nL0 RX0 R0) {al : Nat → Nat} {x : zS} {c k c0 s0 pc : Nat} {lv : List (Option Value)} {st : List Value} (hcl : zCla c) (hk : x.2.2 c = some k) (hk6 : k < 6) (hd : decode cc pc = .ok (.instanceof 105, 3)) (h : Z Y (wX E0.2.2.2 al x) c0 s0 (pc + 3) lv (.int (if k = 2 ∨ k = 5 then (1 : Int32) else 0) :: st)) : Z Y (wX E0.2.2.2 al x) c0 s0 pc lv (.ref (al c) :: st) := by
  have hw := wX_cla (d := E0.2.2.2) (al := al) hcl hk
  obtain ⟨E, A, nL, p, l, e, R, s, m, args, below, meth, c, Q⟩ := Y
  obtain ⟨rfl, rfl, rfl, hok, hwarm, hx, hb, hml, hown, hts, hA, hold, hlk, htr0⟩ := G
  intro H locs cells slots ls hP hI hN hS hc hs hl
  have hK := zK hok hwarm
  match k, hk6 with
  | 0, _ => exact va_instNo hx hb hown (hts _ q483) (zNc hok hwarm qn_0_X4) (va_recv hK (hP.one hw) (ci := 2) (q := zCl[2]) rfl (q0 := 0) rfl) hd (h H locs cells slots ls hP hI hN hS hc hs hl)
  | 1, _ => exact va_instNo hx hb hown (hts _ q483) (zNc hok hwarm qn_1_X4) (va_recv hK (hP.one hw) (ci := 3) (q := zCl[3]) rfl (q0 := 0) rfl) hd (h H locs cells slots ls hP hI hN hS hc hs hl)
  | 2, _ => exact va_instS hx hb hown (hts _ q483) (hK.1 4 zCl[4] rfl).2 (va_recv hK (hP.one hw) (ci := 4) (q := zCl[4]) rfl (q0 := 0) rfl) hd (h H locs cells slots ls hP hI hN hS hc hs hl)
  | 3, _ => exact va_instNo hx hb hown (hts _ q483) (zNc hok hwarm qn_3_X4) (va_recv hK (hP.one hw) (ci := 5) (q := zCl[5]) rfl (q0 := 0) rfl) hd (h H locs cells slots ls hP hI hN hS hc hs hl)
  | 4, _ => exact va_instNo hx hb hown (hts _ q483) (zNc hok hwarm qn_4_X4) (va_recv hK (hP.one hw) (ci := 6) (q := zCl[6]) rfl (q0 := 0) rfl) hd (h H locs cells slots ls hP hI hN hS hc hs hl)
  | 5, _ => exact va_instY hx hb hown (hts _ q483) (zCy hok hwarm q1553) (va_recv hK (hP.one hw) (ci := 7) (q := zCl[7]) rfl (q0 := 0) rfl) hd (h H locs cells slots ls hP hI hN hS hc hs hl)
  | k + 6, hk6 => exact absurd hk6 (by omega)
theorem qn_0_X5 : Cond.not (Cond.castable "NeitherBare$Clause" "NeitherBare$Undone") ∈ flatC (Jvm.Cond.and given_1 narrow_1) := by decide +kernel
theorem qn_1_X5 : Cond.not (Cond.castable "NeitherBare$Neither" "NeitherBare$Undone") ∈ flatC (Jvm.Cond.and given_1 narrow_1) := by decide +kernel
theorem qn_2_X5 : Cond.not (Cond.castable "NeitherBare$Both" "NeitherBare$Undone") ∈ flatC (Jvm.Cond.and given_1 narrow_1) := by decide +kernel
theorem qn_4_X5 : Cond.not (Cond.castable "NeitherBare$Half" "NeitherBare$Undone") ∈ flatC (Jvm.Cond.and given_1 narrow_1) := by decide +kernel
theorem qn_5_X5 : Cond.not (Cond.castable "NeitherBare$But" "NeitherBare$Undone") ∈ flatC (Jvm.Cond.and given_1 narrow_1) := by decide +kernel
theorem zX_iX5 {Y : zC} {E0 : zE} {cc : ByteArray} {nL0 : Nat} {R0 : Room} (G : zG Y E0 cc nL0 RX0 R0) {al : Nat → Nat} {x : zS} {c k c0 s0 pc : Nat} {lv : List (Option Value)} {st : List Value} (hcl : zCla c) (hk : x.2.2 c = some k) (hk6 : k < 6) (hd : decode cc pc = .ok (.instanceof 110, 3)) (h : Z Y (wX E0.2.2.2 al x) c0 s0 (pc + 3) lv (.int (if k = 3 then (1 : Int32) else 0) :: st)) : Z Y (wX E0.2.2.2 al x) c0 s0 pc lv (.ref (al c) :: st) := by
  have hw := wX_cla (d := E0.2.2.2) (al := al) hcl hk
  obtain ⟨E, A, nL, p, l, e, R, s, m, args, below, meth, c, Q⟩ := Y
  obtain ⟨rfl, rfl, rfl, hok, hwarm, hx, hb, hml, hown, hts, hA, hold, hlk, htr0⟩ := G
  intro H locs cells slots ls hP hI hN hS hc hs hl
  have hK := zK hok hwarm
  match k, hk6 with
  | 0, _ => exact va_instNo hx hb hown (hts _ q500) (zNc hok hwarm qn_0_X5) (va_recv hK (hP.one hw) (ci := 2) (q := zCl[2]) rfl (q0 := 0) rfl) hd (h H locs cells slots ls hP hI hN hS hc hs hl)
  | 1, _ => exact va_instNo hx hb hown (hts _ q500) (zNc hok hwarm qn_1_X5) (va_recv hK (hP.one hw) (ci := 3) (q := zCl[3]) rfl (q0 := 0) rfl) hd (h H locs cells slots ls hP hI hN hS hc hs hl)
  | 2, _ => exact va_instNo hx hb hown (hts _ q500) (zNc hok hwarm qn_2_X5) (va_recv hK (hP.one hw) (ci := 4) (q := zCl[4]) rfl (q0 := 0) rfl) hd (h H locs cells slots ls hP hI hN hS hc hs hl)
  | 3, _ => exact va_instS hx hb hown (hts _ q500) (hK.1 5 zCl[5] rfl).2 (va_recv hK (hP.one hw) (ci := 5) (q := zCl[5]) rfl (q0 := 0) rfl) hd (h H locs cells slots ls hP hI hN hS hc hs hl)
  | 4, _ => exact va_instNo hx hb hown (hts _ q500) (zNc hok hwarm qn_4_X5) (va_recv hK (hP.one hw) (ci := 6) (q := zCl[6]) rfl (q0 := 0) rfl) hd (h H locs cells slots ls hP hI hN hS hc hs hl)
  | 5, _ => exact va_instNo hx hb hown (hts _ q500) (zNc hok hwarm qn_5_X5) (va_recv hK (hP.one hw) (ci := 7) (q := zCl[7]) rfl (q0 := 0) rfl) hd (h H locs cells slots ls hP hI hN hS hc hs hl)
  | k + 6, hk6 => exact absurd hk6 (by omega)
theorem qn_0_X6 : Cond.not (Cond.castable "NeitherBare$Clause" "NeitherBare$Half") ∈ flatC (Jvm.Cond.and given_1 narrow_1) := by decide +kernel
theorem qn_1_X6 : Cond.not (Cond.castable "NeitherBare$Neither" "NeitherBare$Half") ∈ flatC (Jvm.Cond.and given_1 narrow_1) := by decide +kernel
theorem qn_2_X6 : Cond.not (Cond.castable "NeitherBare$Both" "NeitherBare$Half") ∈ flatC (Jvm.Cond.and given_1 narrow_1) := by decide +kernel
theorem qn_3_X6 : Cond.not (Cond.castable "NeitherBare$Undone" "NeitherBare$Half") ∈ flatC (Jvm.Cond.and given_1 narrow_1) := by decide +kernel
theorem qn_5_X6 : Cond.not (Cond.castable "NeitherBare$But" "NeitherBare$Half") ∈ flatC (Jvm.Cond.and given_1 narrow_1) := by decide +kernel
theorem zX_iX6 {Y : zC} {E0 : zE} {cc : ByteArray} {nL0 : Nat} {R0 : Room} (G : zG Y E0 cc nL0 RX0 R0) {al : Nat → Nat} {x : zS} {c k c0 s0 pc : Nat} {lv : List (Option Value)} {st : List Value} (hcl : zCla c) (hk : x.2.2 c = some k) (hk6 : k < 6) (hd : decode cc pc = .ok (.instanceof 113, 3)) (h : Z Y (wX E0.2.2.2 al x) c0 s0 (pc + 3) lv (.int (if k = 4 then (1 : Int32) else 0) :: st)) : Z Y (wX E0.2.2.2 al x) c0 s0 pc lv (.ref (al c) :: st) := by
  have hw := wX_cla (d := E0.2.2.2) (al := al) hcl hk
  obtain ⟨E, A, nL, p, l, e, R, s, m, args, below, meth, c, Q⟩ := Y
  obtain ⟨rfl, rfl, rfl, hok, hwarm, hx, hb, hml, hown, hts, hA, hold, hlk, htr0⟩ := G
  intro H locs cells slots ls hP hI hN hS hc hs hl
  have hK := zK hok hwarm
  match k, hk6 with
  | 0, _ => exact va_instNo hx hb hown (hts _ q512) (zNc hok hwarm qn_0_X6) (va_recv hK (hP.one hw) (ci := 2) (q := zCl[2]) rfl (q0 := 0) rfl) hd (h H locs cells slots ls hP hI hN hS hc hs hl)
  | 1, _ => exact va_instNo hx hb hown (hts _ q512) (zNc hok hwarm qn_1_X6) (va_recv hK (hP.one hw) (ci := 3) (q := zCl[3]) rfl (q0 := 0) rfl) hd (h H locs cells slots ls hP hI hN hS hc hs hl)
  | 2, _ => exact va_instNo hx hb hown (hts _ q512) (zNc hok hwarm qn_2_X6) (va_recv hK (hP.one hw) (ci := 4) (q := zCl[4]) rfl (q0 := 0) rfl) hd (h H locs cells slots ls hP hI hN hS hc hs hl)
  | 3, _ => exact va_instNo hx hb hown (hts _ q512) (zNc hok hwarm qn_3_X6) (va_recv hK (hP.one hw) (ci := 5) (q := zCl[5]) rfl (q0 := 0) rfl) hd (h H locs cells slots ls hP hI hN hS hc hs hl)
  | 4, _ => exact va_instS hx hb hown (hts _ q512) (hK.1 6 zCl[6] rfl).2 (va_recv hK (hP.one hw) (ci := 6) (q := zCl[6]) rfl (q0 := 0) rfl) hd (h H locs cells slots ls hP hI hN hS hc hs hl)
  | 5, _ => exact va_instNo hx hb hown (hts _ q512) (zNc hok hwarm qn_5_X6) (va_recv hK (hP.one hw) (ci := 7) (q := zCl[7]) rfl (q0 := 0) rfl) hd (h H locs cells slots ls hP hI hN hS hc hs hl)
  | k + 6, hk6 => exact absurd hk6 (by omega)
theorem qn_0_X7 : Cond.not (Cond.castable "NeitherBare$Clause" "NeitherBare$But") ∈ flatC (Jvm.Cond.and given_1 narrow_1) := by decide +kernel
theorem qn_1_X7 : Cond.not (Cond.castable "NeitherBare$Neither" "NeitherBare$But") ∈ flatC (Jvm.Cond.and given_1 narrow_1) := by decide +kernel
theorem qn_2_X7 : Cond.not (Cond.castable "NeitherBare$Both" "NeitherBare$But") ∈ flatC (Jvm.Cond.and given_1 narrow_1) := by decide +kernel
theorem qn_3_X7 : Cond.not (Cond.castable "NeitherBare$Undone" "NeitherBare$But") ∈ flatC (Jvm.Cond.and given_1 narrow_1) := by decide +kernel
theorem qn_4_X7 : Cond.not (Cond.castable "NeitherBare$Half" "NeitherBare$But") ∈ flatC (Jvm.Cond.and given_1 narrow_1) := by decide +kernel
theorem zX_iX7 {Y : zC} {E0 : zE} {cc : ByteArray} {nL0 : Nat} {R0 : Room} (G : zG Y E0 cc nL0 RX0 R0) {al : Nat → Nat} {x : zS} {c k c0 s0 pc : Nat} {lv : List (Option Value)} {st : List Value} (hcl : zCla c) (hk : x.2.2 c = some k) (hk6 : k < 6) (hd : decode cc pc = .ok (.instanceof 116, 3)) (h : Z Y (wX E0.2.2.2 al x) c0 s0 (pc + 3) lv (.int (if k = 5 then (1 : Int32) else 0) :: st)) : Z Y (wX E0.2.2.2 al x) c0 s0 pc lv (.ref (al c) :: st) := by
  have hw := wX_cla (d := E0.2.2.2) (al := al) hcl hk
  obtain ⟨E, A, nL, p, l, e, R, s, m, args, below, meth, c, Q⟩ := Y
  obtain ⟨rfl, rfl, rfl, hok, hwarm, hx, hb, hml, hown, hts, hA, hold, hlk, htr0⟩ := G
  intro H locs cells slots ls hP hI hN hS hc hs hl
  have hK := zK hok hwarm
  match k, hk6 with
  | 0, _ => exact va_instNo hx hb hown (hts _ q525) (zNc hok hwarm qn_0_X7) (va_recv hK (hP.one hw) (ci := 2) (q := zCl[2]) rfl (q0 := 0) rfl) hd (h H locs cells slots ls hP hI hN hS hc hs hl)
  | 1, _ => exact va_instNo hx hb hown (hts _ q525) (zNc hok hwarm qn_1_X7) (va_recv hK (hP.one hw) (ci := 3) (q := zCl[3]) rfl (q0 := 0) rfl) hd (h H locs cells slots ls hP hI hN hS hc hs hl)
  | 2, _ => exact va_instNo hx hb hown (hts _ q525) (zNc hok hwarm qn_2_X7) (va_recv hK (hP.one hw) (ci := 4) (q := zCl[4]) rfl (q0 := 0) rfl) hd (h H locs cells slots ls hP hI hN hS hc hs hl)
  | 3, _ => exact va_instNo hx hb hown (hts _ q525) (zNc hok hwarm qn_3_X7) (va_recv hK (hP.one hw) (ci := 5) (q := zCl[5]) rfl (q0 := 0) rfl) hd (h H locs cells slots ls hP hI hN hS hc hs hl)
  | 4, _ => exact va_instNo hx hb hown (hts _ q525) (zNc hok hwarm qn_4_X7) (va_recv hK (hP.one hw) (ci := 6) (q := zCl[6]) rfl (q0 := 0) rfl) hd (h H locs cells slots ls hP hI hN hS hc hs hl)
  | 5, _ => exact va_instS hx hb hown (hts _ q525) (hK.1 7 zCl[7] rfl).2 (va_recv hK (hP.one hw) (ci := 7) (q := zCl[7]) rfl (q0 := 0) rfl) hd (h H locs cells slots ls hP hI hN hS hc hs hl)
  | k + 6, hk6 => exact absurd hk6 (by omega)
