theorem z_get {Y : zC} {E0 : zE} {cc : ByteArray} {nL0 : Nat} {own : String} {R0 : Room} (G : zG Y E0 cc nL0 own R0) {w : zM} {c0 s0 pc : Nat} {lv : List (Option Value)} {st : List Value} {ref C : String} {T : u_T} {N ci index : Nat} (hin : ∀ w ∈ u_ws C T N, w ∈ lw_all) (hcl : zCl[ci]? = some (C, T, N)) {id a : Nat} {fs : List Value} (hw : w id = some (a, .inr (ci, fs))) (k : Nat) (hk : k < N) (hq : Cond.fieldLink own index ref (T k).2.1 (T k).2.2.1 ∈ lw_all) (hsame : (T k).1 = ref) {v : Value} (hv : fs[k]? = some v) (hd : decode cc pc = .ok (.getfield index, 3)) (h : Z Y w c0 s0 (pc + 3) lv (v :: st)) : Z Y w c0 s0 pc lv (.ref a :: st) := by
  obtain ⟨E, A, nL, p, l, e, R, s, m, args, below, meth, c, Q⟩ := Y
  obtain ⟨rfl, rfl, rfl, hok, hwarm, hx, hb, hml, hown, hts, hA, hold, hlk, htr0⟩ := G
  intro H locs cells slots ls hP hI hN hS hc hs hl
  exact va_get hx hb hts hin hown (zK hok hwarm) (hP.one hw) 0 rfl hcl k hk (hts _ hq) (fun x h9 => hsame ▸ h9) hv hd (h H locs cells slots ls hP hI hN hS hc hs hl)
theorem z_getS {Y : zC} {E0 : zE} {cc : ByteArray} {nL0 : Nat} {own : String} {R0 : Room} (G : zG Y E0 cc nL0 own R0) {w : zM} {c0 s0 pc : Nat} {lv : List (Option Value)} {st : List Value} {ref C : String} {T : u_T} {N ci index : Nat} (hin : ∀ w ∈ u_ws C T N, w ∈ lw_all) (hcl : zCl[ci]? = some (C, T, N)) {id a : Nat} {fs : List Value} (hw : w id = some (a, .inr (ci, fs))) (k : Nat) (hk : k < N) (hq : Cond.fieldLink own index ref (T k).2.1 (T k).2.2.1 ∈ lw_all) (hsame : Cond.sameField ref (T k).1 (T k).2.1 (T k).2.2.1 ∈ lw_all) {v : Value} (hv : fs[k]? = some v) (hd : decode cc pc = .ok (.getfield index, 3)) (h : Z Y w c0 s0 (pc + 3) lv (v :: st)) : Z Y w c0 s0 pc lv (.ref a :: st) := by
  obtain ⟨E, A, nL, p, l, e, R, s, m, args, below, meth, c, Q⟩ := Y
  obtain ⟨rfl, rfl, rfl, hok, hwarm, hx, hb, hml, hown, hts, hA, hold, hlk, htr0⟩ := G
  intro H locs cells slots ls hP hI hN hS hc hs hl
  exact va_get hx hb hts hin hown (zK hok hwarm) (hP.one hw) 0 rfl hcl k hk (hts _ hq) (fun x h9 => u_same (hts _ hsame) x h9) hv hd (h H locs cells slots ls hP hI hN hS hc hs hl)
theorem z_getN {Y : zC} {E0 : zE} {cc : ByteArray} {nL0 : Nat} {own : String} {R0 : Room} (G : zG Y E0 cc nL0 own R0) {w : zM} {c0 s0 pc : Nat} {lv : List (Option Value)} {st : List Value} {ref C : String} {T : u_T} {N ci index : Nat} (hin : ∀ w ∈ u_ws C T N, w ∈ lw_all) (hcl : zCl[ci]? = some (C, T, N)) {id a : Nat} {fs : List Value} (hw : w id = some (a, .inr (ci, fs))) (k : Nat) (hk : k < N) {host : String} (hq : Cond.fieldLinkNest own index ref (T k).2.1 (T k).2.2.1 host ∈ lw_tbl) (hsame : (T k).1 = ref) {v : Value} (hv : fs[k]? = some v) (hd : decode cc pc = .ok (.getfield index, 3)) (h : Z Y w c0 s0 (pc + 3) lv (v :: st)) : Z Y w c0 s0 pc lv (.ref a :: st) := by
  obtain ⟨E, A, nL, p, l, e, R, s, m, args, below, meth, c, Q⟩ := Y
  obtain ⟨rfl, rfl, rfl, hok, hwarm, hx, hb, hml, hown, hts, hA, hold, hlk, htr0⟩ := G
  intro H locs cells slots ls hP hI hN hS hc hs hl
  exact va_getN hx hb hts hin hown (zK hok hwarm) (hP.one hw) 0 rfl hcl k hk (va_Nw.use rfl (va_Nw.warmF hwarm (va_Nw.of rfl (hok.1 _ hq)))) (fun x h9 => hsame ▸ h9) hv hd (h H locs cells slots ls hP hI hN hS hc hs hl)
theorem z_put {Y : zC} {E0 : zE} {cc : ByteArray} {nL0 : Nat} {own : String} {R0 : Room} (G : zG Y E0 cc nL0 own R0) {w : zM} {c0 s0 pc : Nat} {lv : List (Option Value)} {st : List Value} {ref C : String} {T : u_T} {N ci index : Nat} (hin : ∀ w ∈ u_ws C T N, w ∈ lw_all) (hcl : zCl[ci]? = some (C, T, N)) {id a : Nat} {fs : List Value} (hw : w id = some (a, .inr (ci, fs))) (k : Nat) (hk : k < N) (ty0 : Nat → FieldType) (hty : ∀ k, k < N → parseFieldDescriptor (T k).2.2.1 = some (ty0 k)) (hnm : ∀ a, a < N → ∀ b, b < N → a ≠ b → (T a).2.1 ≠ (T b).2.1) (hq : Cond.fieldLink own index ref (T k).2.1 (T k).2.2.1 ∈ lw_all) (hsame : (T k).1 = ref) (hfin : (T k).2.2.2 = false) {ty : FieldType} {v : Value} (hdd : parseFieldDescriptor (T k).2.2.1 = some ty) (hn : narrow ty v = v) (hfit : fits ty v = true) (hlen : k < fs.length) {w' : zM} (hw' : w' id = some (a, .inr (ci, fs.set k v))) (ho : ∀ j, j ≠ id → w' j = w j) (hd : decode cc pc = .ok (.putfield index, 3)) (h : Z Y w' c0 s0 (pc + 3) lv st) : Z Y w c0 s0 pc lv (v :: .ref a :: st) := by
  obtain ⟨E, A, nL, p, l, e, R, s, m, args, below, meth, c, Q⟩ := Y
  obtain ⟨rfl, rfl, rfl, hok, hwarm, hx, hb, hml, hown, hts, hA, hold, hlk, htr0⟩ := G
  intro H locs cells slots ls hP hI hN hS hc hs hl
  have hK := zK hok hwarm
  have hap := va_apart (own := own) hts hin ty0 hty hnm hK hcl
  obtain ⟨r, h1, cell, q1, q2, q3, q4⟩ := hP id _ hw
  have hr : r = (C, T, N) := Option.some.inj (h1.symm.trans hcl)
  subst hr
  obtain ⟨hSl, hfc, kC, hkC, hkind⟩ := hK.1 ci _ hcl
  obtain ⟨cf, kf, fi, f, hi, hsl⟩ := hSl k hk
  have hlay := hts _ (hin _ (u_in_lay hk))
  unfold u_lay at hlay
  rw [if_neg (by rw [hfin]; decide)] at hlay
  have hst := (u_facts hfc hkC (u_lays hts hin hk) hi).1
  have h6 := u_store hfc hkC hkind hlay hi hdd hn hfit
  refine W.putK hx hb (f := f) ⟨hown, hts _ hq, ⟨_, _, _, hsame ▸ hi⟩, hst⟩ (by rw [q2]; exact h6) q1 q3 (by rw [hsl]; exact k2_hasslot (q4 k hk)) rfl rfl hd fun H' e1 e2 e3 => ?_
  rw [hsl] at e1 ⊢
  exact h H' _ cells slots ls (zP.set (e := .inr (ci, fs.set k v)) hP hI hw ⟨_, hcl, t_OB.to (V := updV (vp_V fs) k v) ⟨_, e1, q2, q3, t_set q4 hap hk v⟩ (fun j _ => vp_updV_set hlen v j)⟩ e3 hw' ho) (hI.set hw hw' ho) (hN.set hw hw' ho) (hS.put e2 e3 (hN id _ hw)) hc hs hl
theorem z_iald {Y : zC} {E0 : zE} {cc : ByteArray} {nL0 : Nat} {own : String} {R0 : Room} (G : zG Y E0 cc nL0 own R0) {w : zM} {c0 s0 pc : Nat} {lv : List (Option Value)} {st : List Value} (t0 : Nat) {cA : ClassId} {n id a : Nat} {f : Nat → Int32} (hw : w id = some (a, .inl (cA, n, .inl f))) (ht : (zTy E0.2.2.2)[t0]? = some (cA, .int)) {i : Int32} (hi : vp_in i n) (hd : decode cc pc = .ok (.iaload, 1)) (h : Z Y w c0 s0 (pc + 1) lv (.int (f i.toNatClampNeg) :: st)) : Z Y w c0 s0 pc lv (.int i :: .ref a :: st) := by
  obtain ⟨E, A, nL, p, l, e, R, s, m, args, below, meth, c, Q⟩ := Y
  obtain ⟨rfl, rfl, rfl, hok, hwarm, hx, hb, hml, hown, hts, hA, hold, hlk, htr0⟩ := G
  intro H locs cells slots ls hP hI hN hS hc hs hl
  exact va_iald hx hb (zK hok hwarm) (hP.one hw) 0 t0 rfl ht hi hd (h H locs cells slots ls hP hI hN hS hc hs hl)
theorem z_bald {Y : zC} {E0 : zE} {cc : ByteArray} {nL0 : Nat} {own : String} {R0 : Room} (G : zG Y E0 cc nL0 own R0) {w : zM} {c0 s0 pc : Nat} {lv : List (Option Value)} {st : List Value} (t0 : Nat) {cA : ClassId} {n id a : Nat} {f : Nat → Int32} (hw : w id = some (a, .inl (cA, n, .inl f))) (ht : (zTy E0.2.2.2)[t0]? = some (cA, .byte)) {i : Int32} (hi : vp_in i n) (hd : decode cc pc = .ok (.baload, 1)) (h : Z Y w c0 s0 (pc + 1) lv (.int (f i.toNatClampNeg) :: st)) : Z Y w c0 s0 pc lv (.int i :: .ref a :: st) := by
  obtain ⟨E, A, nL, p, l, e, R, s, m, args, below, meth, c, Q⟩ := Y
  obtain ⟨rfl, rfl, rfl, hok, hwarm, hx, hb, hml, hown, hts, hA, hold, hlk, htr0⟩ := G
  intro H locs cells slots ls hP hI hN hS hc hs hl
  exact va_bald hx hb (zK hok hwarm) (hP.one hw) 0 t0 rfl ht hi hd (h H locs cells slots ls hP hI hN hS hc hs hl)
theorem z_zald {Y : zC} {E0 : zE} {cc : ByteArray} {nL0 : Nat} {own : String} {R0 : Room} (G : zG Y E0 cc nL0 own R0) {w : zM} {c0 s0 pc : Nat} {lv : List (Option Value)} {st : List Value} (t0 : Nat) {cA : ClassId} {n id a : Nat} {f : Nat → Int32} (hw : w id = some (a, .inl (cA, n, .inl f))) (ht : (zTy E0.2.2.2)[t0]? = some (cA, .boolean)) {i : Int32} (hi : vp_in i n) (hd : decode cc pc = .ok (.baload, 1)) (h : Z Y w c0 s0 (pc + 1) lv (.int (f i.toNatClampNeg) :: st)) : Z Y w c0 s0 pc lv (.int i :: .ref a :: st) := by
  obtain ⟨E, A, nL, p, l, e, R, s, m, args, below, meth, c, Q⟩ := Y
  obtain ⟨rfl, rfl, rfl, hok, hwarm, hx, hb, hml, hown, hts, hA, hold, hlk, htr0⟩ := G
  intro H locs cells slots ls hP hI hN hS hc hs hl
  exact va_zald hx hb (zK hok hwarm) (hP.one hw) 0 t0 rfl ht hi hd (h H locs cells slots ls hP hI hN hS hc hs hl)
theorem z_lald {Y : zC} {E0 : zE} {cc : ByteArray} {nL0 : Nat} {own : String} {R0 : Room} (G : zG Y E0 cc nL0 own R0) {w : zM} {c0 s0 pc : Nat} {lv : List (Option Value)} {st : List Value} (t0 : Nat) {cA : ClassId} {n id a : Nat} {f : Nat → Int64} (hw : w id = some (a, .inl (cA, n, .inr (.inl f)))) (ht : (zTy E0.2.2.2)[t0]? = some (cA, .long)) {i : Int32} (hi : vp_in i n) (hd : decode cc pc = .ok (.laload, 1)) (h : Z Y w c0 s0 (pc + 1) lv (.long (f i.toNatClampNeg) :: st)) : Z Y w c0 s0 pc lv (.int i :: .ref a :: st) := by
  obtain ⟨E, A, nL, p, l, e, R, s, m, args, below, meth, c, Q⟩ := Y
  obtain ⟨rfl, rfl, rfl, hok, hwarm, hx, hb, hml, hown, hts, hA, hold, hlk, htr0⟩ := G
  intro H locs cells slots ls hP hI hN hS hc hs hl
  exact va_lald hx hb (zK hok hwarm) (hP.one hw) 0 t0 rfl ht hi hd (h H locs cells slots ls hP hI hN hS hc hs hl)
theorem z_aald {Y : zC} {E0 : zE} {cc : ByteArray} {nL0 : Nat} {own : String} {R0 : Room} (G : zG Y E0 cc nL0 own R0) {w : zM} {c0 s0 pc : Nat} {lv : List (Option Value)} {st : List Value} (t0 : Nat) {cA : ClassId} {n id a : Nat} {f : Nat → Option Nat} {ty : FieldType} (hw : w id = some (a, .inl (cA, n, .inr (.inr (.inr (.inr f)))))) (ht : (zTy E0.2.2.2)[t0]? = some (cA, ty)) (hty : ty.isReference = true) {i : Int32} (hi : vp_in i n) (hd : decode cc pc = .ok (.aaload, 1)) (h : Z Y w c0 s0 (pc + 1) lv (va_rf (f i.toNatClampNeg) :: st)) : Z Y w c0 s0 pc lv (.int i :: .ref a :: st) := by
  obtain ⟨E, A, nL, p, l, e, R, s, m, args, below, meth, c, Q⟩ := Y
  obtain ⟨rfl, rfl, rfl, hok, hwarm, hx, hb, hml, hown, hts, hA, hold, hlk, htr0⟩ := G
  intro H locs cells slots ls hP hI hN hS hc hs hl
  have hlt : i.toNatClampNeg < n := Nat.not_le.mp fun q => hi (Or.inr q)
  have hK := zK hok hwarm
  exact W.aald (v := va_rf (f i.toNatClampNeg)) (ty := ty) hx hb (hP id _ hw) ((hK.2 t0 _ ht).1 n (fun j => va_rf (f j))) hty (fun q => by cases q) (by show ¬ (i < 0 ∨ (arrV _ _ _).slots.size ≤ _); rw [arrV_size]; exact hi) (by show (arrV _ _ _).slots[_]? = _; rw [arrV_read _ _ hlt]) rfl rfl hd (h H locs cells slots ls hP hI hN hS hc hs hl)
theorem z_alen {Y : zC} {E0 : zE} {cc : ByteArray} {nL0 : Nat} {own : String} {R0 : Room} (G : zG Y E0 cc nL0 own R0) {w : zM} {c0 s0 pc : Nat} {lv : List (Option Value)} {st : List Value} (t0 : Nat) {cA : ClassId} {x : vp_A} {id a : Nat} {ty : FieldType} (hw : w id = some (a, .inl (cA, x))) (ht : (zTy E0.2.2.2)[t0]? = some (cA, ty)) {v : Int32} (hv : Int32.ofNat x.1 = v) (hd : decode cc pc = .ok (.arraylength, 1)) (h : Z Y w c0 s0 (pc + 1) lv (.int v :: st)) : Z Y w c0 s0 pc lv (.ref a :: st) := by
  obtain ⟨E, A, nL, p, l, e, R, s, m, args, below, meth, c, Q⟩ := Y
  obtain ⟨rfl, rfl, rfl, hok, hwarm, hx, hb, hml, hown, hts, hA, hold, hlk, htr0⟩ := G
  intro H locs cells slots ls hP hI hN hS hc hs hl
  exact va_alen hx hb (zK hok hwarm) (hP.one hw) 0 t0 rfl ht hv hd (h H locs cells slots ls hP hI hN hS hc hs hl)
theorem z_iast {Y : zC} {E0 : zE} {cc : ByteArray} {nL0 : Nat} {own : String} {R0 : Room} (G : zG Y E0 cc nL0 own R0) {w : zM} {c0 s0 pc : Nat} {lv : List (Option Value)} {st : List Value} (t0 : Nat) {cA : ClassId} {n id a : Nat} {f : Nat → Int32} (hw : w id = some (a, .inl (cA, n, .inl f))) (ht : (zTy E0.2.2.2)[t0]? = some (cA, .int)) {i : Int32} {x : Int32} (hi : vp_in i n) {w' : zM} (hw' : w' id = some (a, .inl (cA, n, .inl (upd f i.toNatClampNeg x)))) (ho : ∀ j, j ≠ id → w' j = w j) (hd : decode cc pc = .ok (.iastore, 1)) (h : Z Y w' c0 s0 (pc + 1) lv st) : Z Y w c0 s0 pc lv (.int x :: .int i :: .ref a :: st) := by
  obtain ⟨E, A, nL, p, l, e, R, s, m, args, below, meth, c, Q⟩ := Y
  obtain ⟨rfl, rfl, rfl, hok, hwarm, hx, hb, hml, hown, hts, hA, hold, hlk, htr0⟩ := G
  intro H locs cells slots ls hP hI hN hS hc hs hl
  have hK := zK hok hwarm
  refine W.iast hx hb (hP id _ hw) ((hK.2 t0 _ ht).1 n (fun j => .int (f j))) (fun q => by cases q) (by show ¬ (i < 0 ∨ (arrV _ _ _).slots.size ≤ _); rw [arrV_size]; exact hi) rfl rfl hd fun H1 e1 z oq => ?_
  refine h H1 _ cells slots ls (hP.set hI hw ?_ oq hw' ho) (hI.set hw hw' ho) (hN.set hw hw' ho) (hS.put z oq (hN id _ hw)) hc hs hl
  show H1[a]? = some (vp_cell _ _)
  rw [e1]
  rw [vp_cell_i, vp_cell_i, arrV_store]
  congr 2
  funext q
  by_cases hq : q = i.toNatClampNeg
  · subst hq
    simp [updV, upd]
    try rfl
  · simp [updV, upd, hq]
theorem z_bast {Y : zC} {E0 : zE} {cc : ByteArray} {nL0 : Nat} {own : String} {R0 : Room} (G : zG Y E0 cc nL0 own R0) {w : zM} {c0 s0 pc : Nat} {lv : List (Option Value)} {st : List Value} (t0 : Nat) {cA : ClassId} {n id a : Nat} {f : Nat → Int32} (hw : w id = some (a, .inl (cA, n, .inl f))) (ht : (zTy E0.2.2.2)[t0]? = some (cA, .byte)) {i : Int32} {x : Int32} (hi : vp_in i n) {w' : zM} (hw' : w' id = some (a, .inl (cA, n, .inl (upd f i.toNatClampNeg (vp_nar .byte x))))) (ho : ∀ j, j ≠ id → w' j = w j) (hd : decode cc pc = .ok (.bastore, 1)) (h : Z Y w' c0 s0 (pc + 1) lv st) : Z Y w c0 s0 pc lv (.int x :: .int i :: .ref a :: st) := by
  obtain ⟨E, A, nL, p, l, e, R, s, m, args, below, meth, c, Q⟩ := Y
  obtain ⟨rfl, rfl, rfl, hok, hwarm, hx, hb, hml, hown, hts, hA, hold, hlk, htr0⟩ := G
  intro H locs cells slots ls hP hI hN hS hc hs hl
  have hK := zK hok hwarm
  refine W.bast hx hb (hP id _ hw) ((hK.2 t0 _ ht).1 n (fun j => .int (f j))) (fun q => by cases q) (by show ¬ (i < 0 ∨ (arrV _ _ _).slots.size ≤ _); rw [arrV_size]; exact hi) rfl rfl hd fun H1 e1 z oq => ?_
  refine h H1 _ cells slots ls (hP.set hI hw ?_ oq hw' ho) (hI.set hw hw' ho) (hN.set hw hw' ho) (hS.put z oq (hN id _ hw)) hc hs hl
  show H1[a]? = some (vp_cell _ _)
  rw [e1]
  rw [vp_cell_i, vp_cell_i, arrV_store]
  congr 2
  funext q
  by_cases hq : q = i.toNatClampNeg
  · subst hq
    simp [updV, upd, vp_nar]
    try rfl
  · simp [updV, upd, hq]
theorem z_zast {Y : zC} {E0 : zE} {cc : ByteArray} {nL0 : Nat} {own : String} {R0 : Room} (G : zG Y E0 cc nL0 own R0) {w : zM} {c0 s0 pc : Nat} {lv : List (Option Value)} {st : List Value} (t0 : Nat) {cA : ClassId} {n id a : Nat} {f : Nat → Int32} (hw : w id = some (a, .inl (cA, n, .inl f))) (ht : (zTy E0.2.2.2)[t0]? = some (cA, .boolean)) {i : Int32} {x : Int32} (hi : vp_in i n) {w' : zM} (hw' : w' id = some (a, .inl (cA, n, .inl (upd f i.toNatClampNeg (vp_nar .boolean x))))) (ho : ∀ j, j ≠ id → w' j = w j) (hd : decode cc pc = .ok (.bastore, 1)) (h : Z Y w' c0 s0 (pc + 1) lv st) : Z Y w c0 s0 pc lv (.int x :: .int i :: .ref a :: st) := by
  obtain ⟨E, A, nL, p, l, e, R, s, m, args, below, meth, c, Q⟩ := Y
  obtain ⟨rfl, rfl, rfl, hok, hwarm, hx, hb, hml, hown, hts, hA, hold, hlk, htr0⟩ := G
  intro H locs cells slots ls hP hI hN hS hc hs hl
  have hK := zK hok hwarm
  refine W.zast hx hb (hP id _ hw) ((hK.2 t0 _ ht).1 n (fun j => .int (f j))) (fun q => by cases q) (by show ¬ (i < 0 ∨ (arrV _ _ _).slots.size ≤ _); rw [arrV_size]; exact hi) rfl rfl hd fun H1 e1 z oq => ?_
  refine h H1 _ cells slots ls (hP.set hI hw ?_ oq hw' ho) (hI.set hw hw' ho) (hN.set hw hw' ho) (hS.put z oq (hN id _ hw)) hc hs hl
  show H1[a]? = some (vp_cell _ _)
  rw [e1]
  rw [vp_cell_i, vp_cell_i, arrV_store]
  congr 2
  funext q
  by_cases hq : q = i.toNatClampNeg
  · subst hq
    simp [updV, upd, vp_nar]
    try rfl
  · simp [updV, upd, hq]
theorem z_last {Y : zC} {E0 : zE} {cc : ByteArray} {nL0 : Nat} {own : String} {R0 : Room} (G : zG Y E0 cc nL0 own R0) {w : zM} {c0 s0 pc : Nat} {lv : List (Option Value)} {st : List Value} (t0 : Nat) {cA : ClassId} {n id a : Nat} {f : Nat → Int64} (hw : w id = some (a, .inl (cA, n, .inr (.inl f)))) (ht : (zTy E0.2.2.2)[t0]? = some (cA, .long)) {i : Int32} {x : Int64} (hi : vp_in i n) {w' : zM} (hw' : w' id = some (a, .inl (cA, n, .inr (.inl (vp_updL f i.toNatClampNeg x))))) (ho : ∀ j, j ≠ id → w' j = w j) (hd : decode cc pc = .ok (.lastore, 1)) (h : Z Y w' c0 s0 (pc + 1) lv st) : Z Y w c0 s0 pc lv (.long x :: .int i :: .ref a :: st) := by
  obtain ⟨E, A, nL, p, l, e, R, s, m, args, below, meth, c, Q⟩ := Y
  obtain ⟨rfl, rfl, rfl, hok, hwarm, hx, hb, hml, hown, hts, hA, hold, hlk, htr0⟩ := G
  intro H locs cells slots ls hP hI hN hS hc hs hl
  have hK := zK hok hwarm
  refine W.last hx hb (hP id _ hw) ((hK.2 t0 _ ht).1 n (fun j => .long (f j))) (fun q => by cases q) (by show ¬ (i < 0 ∨ (arrV _ _ _).slots.size ≤ _); rw [arrV_size]; exact hi) rfl rfl hd fun H1 e1 z oq => ?_
  refine h H1 _ cells slots ls (hP.set hI hw ?_ oq hw' ho) (hI.set hw hw' ho) (hN.set hw hw' ho) (hS.put z oq (hN id _ hw)) hc hs hl
  show H1[a]? = some (vp_cell _ _)
  rw [e1]
  rw [vp_cell_l, vp_cell_l, arrV_store]
  congr 2
  funext q
  by_cases hq : q = i.toNatClampNeg
  · subst hq
    simp [updV, vp_updL]
    try rfl
  · simp [updV, vp_updL, hq]
/-- a method's end: an answer v and a world w' with T; what isn't its own stays -/
def zQc (E : zE) (A : Nat → Prop) (T : Option Value → zM → Prop) : Array Value → State → Outcome → State → Prop := fun _ st oc t => (∃ (v : Option Value) (w' : zM), oc = .returned v ∧ T v w' ∧ zP E.2.2.1 w' t.heap ∧ zI w' ∧ zIn A w') ∧ va_F A st t
/-- A CONTRACT: method y, with the words ws, in the room rm, called with the values avs over the world w -/
def zCt (E : zE) (y : MethodName) (ws : List Cond) (rm : Room) (avs : List Value) (w : zM) (T : Option Value → zM → Prop) : Prop := ∀ (l : Launch) (sz : Nat), l.stackTraces = false → Met l y ws rm (va_Pc avs (fun U => U.heap.size = sz ∧ zP E.2.2.1 w U.heap ∧ zI w ∧ E.1.WarmedH U.vm ∧ zOld E U.heap ∧ zIn (fun q => E.1.heap.size ≤ q) w)) (zQc E (zA w sz) T) rm.cells rm.slots (zA w sz)
/-- the usual end: one answer, one world -/
def zT (v0 : Option Value) (w0 : zM) : Option Value → zM → Prop := fun v w => v = v0 ∧ w = w0
def zRt (Y : zC) (E0 : zE) (mc ms : Nat) (ret : Option FieldType) (T : Option Value → zM → Prop) : Prop := match Y with
  | (E, A, _, _, _, _, _, s, _, args, below, meth, _, Q) => E = E0 ∧ Q = MQ below (zQc E A T) args s mc ms A ∧ meth.sig.returnType = ret
theorem zP.st {D : va_G} {w : zM} {H : Heap} (hP : zP D w H) {k q : Nat} {e : va_E} (hk : w k = some (q, e)) {cell : Cell} (hc : H[q]? = some cell) : cell.vm.isStatics = false := by
  have h := hP k _ hk
  match e, h with
  | .inl (cA, n, .inl f), h => cases h.symm.trans hc; rfl
  | .inl (cA, n, .inr (.inl f)), h => cases h.symm.trans hc; rfl
  | .inl (cA, n, .inr (.inr (.inl f))), h => cases h.symm.trans hc; rfl
  | .inl (cA, n, .inr (.inr (.inr (.inl f)))), h => cases h.symm.trans hc; rfl
  | .inl (cA, n, .inr (.inr (.inr (.inr f)))), h => cases h.symm.trans hc; rfl
  | .inr o, h =>
    obtain ⟨r, -, cell1, g1, -, g3, -⟩ := h
    cases g1.symm.trans hc
    rw [g3]; rfl
/-- the method's handler table -/
def zH (Y : zC) (hh : List (Nat × Nat × Nat × Nat)) : Prop := match Y with
  | (_, _, _, _, _, _, _, _, _, _, _, _, c, _) => c.exceptionTable.toList.map (fun h => (h.startPc, h.endPc, h.handlerPc, h.catchType)) = hh
theorem zStart {E : zE} {y : MethodName} {cc : ByteArray} {nL : Nat} {ret : Option FieldType} {rm : Room} {avs : List Value} {w : zM} {T : Option Value → zM → Prop} {own : String} (hE : zOk E) (hy : plainName y.cls = true) (ho : y.cls = own) (hlen : (lg_sl avs).length ≤ nL) {lv0 : List (Option Value)} (hlv : lv_args 0 avs = zl 0 lv0)
    (body : ∀ Y : zC, zG Y E cc nL own rm → zRt Y E rm.cells rm.slots ret T → Z Y w 0 0 0 lv0 []) : zCt E y (ws_ y cc nL ret) rm avs w T := by
  intro l sz hst
  refine Met.ofW (cc := cc) (maxL := nL) (ret := ret) hy rfl ?_
  intro p e s m args below meth c s₁ B hml hv
  obtain ⟨rfl, hsz, hP, hI, hwarm, hold, hnew⟩ := hv
  subst hsz
  have hts := atoms_spec (ws := ws_ y cc nL ret) B.pre
  have hts : ∀ w ∈ lw_all, w.before _ s = true := fun w h => hts w (List.mem_cons_of_mem _ h)
  have hown : s.vm.findClass own = some m.cls := ho ▸ findClass_of_methodNamed B.named
  have hl := lv_entry avs (n := nL) hlen
  rw [lg_entry_eq]
  rw [hlv] at hl
  exact body (E, zA w s.heap.size, nL, p, l, e, rm, s, m, avs.toArray, below, meth, c, _) ⟨rfl, rfl, rfl, hE, hwarm, B.exec, B.bytes, hml, hown, hts, fun q h => Or.inr h, ⟨hold, fun q h => by
      rcases h with ⟨k, e9, h⟩ | h
      · exact ⟨hnew k _ h, fun cell hc => zP.st hP h hc⟩
      · exact ⟨Nat.le_trans hold.1 h, fun cell hc => absurd (Array.getElem?_eq_some_iff.mp hc).1 (Nat.not_lt.mpr h)⟩⟩, ⟨B.notSynchronized, hst⟩⟩ ⟨rfl, rfl, B.returns⟩
    s.heap [] 0 0 _ hP hI (fun k q hk => Or.inl ⟨k, q.2, hk⟩) va_S.rf (Nat.le_refl _) (Nat.le_refl _) hl
theorem zStartW {E : zE} {y : MethodName} {cc : ByteArray} {nL : Nat} {ret : Option FieldType} {hh : List (Nat × Nat × Nat × Nat)} {rm : Room} {avs : List Value} {w : zM} {T : Option Value → zM → Prop} {own : String} (hE : zOk E) (hy : plainName y.cls = true) (ho : y.cls = own) (hlen : (lg_sl avs).length ≤ nL) {lv0 : List (Option Value)} (hlv : lv_args 0 avs = zl 0 lv0)
    (body : ∀ Y : zC, zG Y E cc nL own rm → zH Y hh → zRt Y E rm.cells rm.slots ret T → Z Y w 0 0 0 lv0 []) : zCt E y (wsW_ y cc nL ret hh) rm avs w T := by
  intro l sz hst
  refine va_MetW (cc := cc) (maxL := nL) (ret := ret) (hh := hh) hy rfl ?_
  intro p e s m args below meth c s₁ B hml hv
  obtain ⟨rfl, hsz, hP, hI, hwarm, hold, hnew⟩ := hv
  subst hsz
  have hts := atoms_spec (ws := wsW_ y cc nL ret hh) B.pre
  obtain ⟨m9, meth9, c9, hn9, h19, h29, -, -, htb, -⟩ := Cond.codeWith_spec (hts _ (List.mem_cons_self))
  cases hn9.symm.trans B.named
  cases h19.symm.trans B.method
  cases h29.symm.trans (Stand.of_body B).code
  have hts : ∀ w ∈ lw_all, w.before _ s = true := fun w h => hts w (List.mem_cons_of_mem _ h)
  have hown : s.vm.findClass own = some m.cls := ho ▸ findClass_of_methodNamed B.named
  have hl := lv_entry avs (n := nL) hlen
  rw [lg_entry_eq]
  rw [hlv] at hl
  exact body (E, zA w s.heap.size, nL, p, l, e, rm, s, m, avs.toArray, below, meth, c, _) ⟨rfl, rfl, rfl, hE, hwarm, B.exec, B.bytes, hml, hown, hts, fun q h => Or.inr h, ⟨hold, fun q h => by
      rcases h with ⟨k, e9, h⟩ | h
      · exact ⟨hnew k _ h, fun cell hc => zP.st hP h hc⟩
      · exact ⟨Nat.le_trans hold.1 h, fun cell hc => absurd (Array.getElem?_eq_some_iff.mp hc).1 (Nat.not_lt.mpr h)⟩⟩, ⟨B.notSynchronized, hst⟩⟩ htb ⟨rfl, rfl, B.returns⟩
    s.heap [] 0 0 _ hP hI (fun k q hk => Or.inl ⟨k, q.2, hk⟩) va_S.rf (Nat.le_refl _) (Nat.le_refl _) hl
theorem z_iret {Y : zC} {E0 : zE} {cc : ByteArray} {nL0 : Nat} {own : String} {R0 : Room} (G : zG Y E0 cc nL0 own R0) {w : zM} {c0 s0 pc : Nat} {lv : List (Option Value)} {x : Int32} {mc ms : Nat} {T : Option Value → zM → Prop} (hR : zRt Y E0 mc ms (some .int) T) (ht : T (some (.int x)) w) (hc0 : c0 ≤ mc) (hs0 : s0 ≤ ms) (hd : decode cc pc = .ok (.ireturn, 1)) : Z Y w c0 s0 pc lv [.int x] := by
  obtain ⟨E, A, nL, p, l, e, R, s, m, args, below, meth, c, Q⟩ := Y
  obtain ⟨rfl, rfl, rfl, hok, hwarm, hx, hb, hml, hown, hts, hA, hold, hlk, htr0⟩ := G
  obtain ⟨-, rfl, hr⟩ := hR
  intro H locs cells slots ls hP hI hN hS hc hs hl
  refine W.widen (k := mc) (n := ms) (Nat.le_trans hc hc0) (Nat.le_trans hs hs0) ?_
  exact W.iret hx hb hr (fun t ht9 hW => ⟨⟨_, w, rfl, ht, by rw [ht9]; exact hP, hI, hN⟩, hS.F ht9⟩) hS.2.2 hd
theorem z_lret {Y : zC} {E0 : zE} {cc : ByteArray} {nL0 : Nat} {own : String} {R0 : Room} (G : zG Y E0 cc nL0 own R0) {w : zM} {c0 s0 pc : Nat} {lv : List (Option Value)} {x : Int64} {mc ms : Nat} {T : Option Value → zM → Prop} (hR : zRt Y E0 mc ms (some .long) T) (ht : T (some (.long x)) w) (hc0 : c0 ≤ mc) (hs0 : s0 ≤ ms) (hd : decode cc pc = .ok (.lreturn, 1)) : Z Y w c0 s0 pc lv [.long x] := by
  obtain ⟨E, A, nL, p, l, e, R, s, m, args, below, meth, c, Q⟩ := Y
  obtain ⟨rfl, rfl, rfl, hok, hwarm, hx, hb, hml, hown, hts, hA, hold, hlk, htr0⟩ := G
  obtain ⟨-, rfl, hr⟩ := hR
  intro H locs cells slots ls hP hI hN hS hc hs hl
  refine W.widen (k := mc) (n := ms) (Nat.le_trans hc hc0) (Nat.le_trans hs hs0) ?_
  exact W.lret hx hb hr (fun t ht9 hW => ⟨⟨_, w, rfl, ht, by rw [ht9]; exact hP, hI, hN⟩, hS.F ht9⟩) hS.2.2 hd
theorem z_vret {Y : zC} {E0 : zE} {cc : ByteArray} {nL0 : Nat} {own : String} {R0 : Room} (G : zG Y E0 cc nL0 own R0) {w : zM} {c0 s0 pc : Nat} {lv : List (Option Value)} {mc ms : Nat} {T : Option Value → zM → Prop} (hR : zRt Y E0 mc ms none T) (ht : T (none) w) (hc0 : c0 ≤ mc) (hs0 : s0 ≤ ms) (hd : decode cc pc = .ok (.return_, 1)) : Z Y w c0 s0 pc lv [] := by
  obtain ⟨E, A, nL, p, l, e, R, s, m, args, below, meth, c, Q⟩ := Y
  obtain ⟨rfl, rfl, rfl, hok, hwarm, hx, hb, hml, hown, hts, hA, hold, hlk, htr0⟩ := G
  obtain ⟨-, rfl, hr⟩ := hR
  intro H locs cells slots ls hP hI hN hS hc hs hl
  refine W.widen (k := mc) (n := ms) (Nat.le_trans hc hc0) (Nat.le_trans hs hs0) ?_
  exact W.vret hx hb hr (fun t ht9 hW => ⟨⟨_, w, rfl, ht, by rw [ht9]; exact hP, hI, hN⟩, hS.F ht9⟩) hS.2.2 hd
theorem z_zret {Y : zC} {E0 : zE} {cc : ByteArray} {nL0 : Nat} {own : String} {R0 : Room} (G : zG Y E0 cc nL0 own R0) {w : zM} {c0 s0 pc : Nat} {lv : List (Option Value)} {x : Int32} {mc ms : Nat} {T : Option Value → zM → Prop} (hR : zRt Y E0 mc ms (some .boolean) T) (ht : T (some (.int x)) w) (hn : narrow .boolean (.int x) = .int x) (hc0 : c0 ≤ mc) (hs0 : s0 ≤ ms) (hd : decode cc pc = .ok (.ireturn, 1)) : Z Y w c0 s0 pc lv [.int x] := by
  obtain ⟨E, A, nL, p, l, e, R, s, m, args, below, meth, c, Q⟩ := Y
  obtain ⟨rfl, rfl, rfl, hok, hwarm, hx, hb, hml, hown, hts, hA, hold, hlk, htr0⟩ := G
  obtain ⟨-, rfl, hr⟩ := hR
  intro H locs cells slots ls hP hI hN hS hc hs hl
  refine W.widen (k := mc) (n := ms) (Nat.le_trans hc hc0) (Nat.le_trans hs hs0) ?_
  exact W.zret hx hb hr hn (fun t ht9 hW => ⟨⟨_, w, rfl, ht, by rw [ht9]; exact hP, hI, hN⟩, hS.F ht9⟩) hS.2.2 hd
/-- behind a call -/
theorem z_behind {E : zE} {A : Nat → Prop} {nL : Nat} {p : Program} {l : Launch} {e : Env} {R : Room} {s : State} {m : MethodId} {args : Array Value} {below : List Frame} {meth : Method} {c : Code} {Q : State → Prop} {w : zM} {c1 s1 pc : Nat} {lv : List (Option Value)} {st rest : List Value} {T : Option Value → zM → Prop} {H : Heap} {locs : List Loc} {cells slots mc ms : Nat} {ls : Array Slot} {a : Array Value}
    (hr : va_Run p l e R s m args below meth c H locs cells slots mc ms (F0 m pc ls st) rest (zQc E (zA w H.size) T a) (zA w H.size)) (hN : zIn A w) (hA : ∀ q, s.heap.size ≤ q → A q) (hS : va_S A s.heap H locs) (hc1 : cells + mc ≤ c1) (hs1 : slots + ms ≤ s1) (hl : lv_has ls nL (zl 0 lv))
    (h : ∀ v w', T v w' → Z (E, A, nL, p, l, e, R, s, m, args, below, meth, c, Q) w' c1 s1 (pc + 3) lv (v.toList ++ rest)) : W p l e R s m args below meth c H locs cells slots Q (F0 m pc ls st) := by
  intro T9 hT X
  obtain ⟨v, st₀, t, T', L, h0, X', hL, e1, e2, ⟨⟨v', w', hv, hTv, hP', hI', hN'⟩, hz, hk⟩, stp⟩ := hr T9 hT X
  cases hv
  rw [h0] at hz hk
  have hA' : ∀ q, zA w H.size q → A q := zA.mono hN (fun q h9 => hA q (Nat.le_trans hS.1 h9))
  obtain ⟨t2, a1, b1⟩ := h v w' hTv T'.heap (locs ++ L) (cells + mc) (slots + ms) ls (by rw [e1]; exact hP') hI' (fun k q hq => hA' _ (hN' k q hq))
    ⟨Nat.le_trans hS.1 (by rw [e1]; exact hz), fun q h1 h2 => by rw [e1, hk q (Nat.lt_of_lt_of_le h1 hS.1) (fun z => h2 (hA' q z))]; exact hS.2.1 q h1 h2, fun q hq => by
      rcases List.mem_append.mp hq with h | h
      · exact hS.2.2 q h
      · exact hA' _ (hL q h)⟩ hc1 hs1 hl T' rfl X'
  exact ⟨t2, stp t2 a1, b1⟩
theorem z_blind {E : zE} {w : zM} {sz : Nat} {avs : List Value} : FrameBlind (va_Pc avs (fun U => U.heap.size = sz ∧ zP E.2.2.1 w U.heap ∧ zI w ∧ E.1.WarmedH U.vm ∧ zOld E U.heap ∧ zIn (fun q => E.1.heap.size ≤ q) w)) := fun a U g mk q => by
  obtain ⟨q0, q1, q2, q3, q4, q5, q6⟩ := q
  exact ⟨q0, q1, q2, q3, q4, q5, q6⟩
theorem z_old {E : zE} {s : State} {H : Heap} {A : Nat → Prop} {locs : List Loc} (hold : zOld E s.heap ∧ ∀ q, A q → E.1.heap.size ≤ q ∧ ∀ cell, s.heap[q]? = some cell → cell.vm.isStatics = false) (hS : va_S A s.heap H locs) : zOld E H :=
  ⟨Nat.le_trans hold.1.1 hS.1, fun q hq => (hS.2.1 q (Nat.lt_of_lt_of_le hq hold.1.1) (fun h => absurd (hold.2 q h).1 (by omega))).trans (hold.1.2 q hq)⟩
theorem z_pre {E : zE} {w : zM} {H : Heap} {s : State} {A : Nat → Prop} {locs : List Loc} {avs : List Value} (hP : zP E.2.2.1 w H) (hI : zI w) (hwarm : E.1.WarmedH s.vm) (hold : zOld E s.heap ∧ ∀ q, A q → E.1.heap.size ≤ q ∧ ∀ cell, s.heap[q]? = some cell → cell.vm.isStatics = false) (hS : va_S A s.heap H locs) (hN : zIn A w) : ∀ U : State, U.heap = H → s.WarmedH U.vm → va_Pc avs (fun U => U.heap.size = H.size ∧ zP E.2.2.1 w U.heap ∧ zI w ∧ E.1.WarmedH U.vm ∧ zOld E U.heap ∧ zIn (fun q => E.1.heap.size ≤ q) w) avs.toArray U :=
  fun U hU hW => ⟨rfl, by rw [hU], by rw [hU]; exact hP, hI, State.WarmedH.trans hwarm hW, by rw [hU]; exact z_old hold hS, fun k q hk => (hold.2 _ (hN k q hk)).1⟩
theorem z_callV {Y : zC} {E0 : zE} {cc : ByteArray} {nL0 : Nat} {own : String} {R0 : Room} (G : zG Y E0 cc nL0 own R0) {w : zM} {c0 s0 pc : Nat} {lv : List (Option Value)} {st : List Value} {y : MethodName} {bytes : ByteArray} {maxL index n c1 s1 : Nat} {ret : Option FieldType} {rm : Room} {T : Option Value → zM → Prop} {As rest : List Value} {C : String} {Tt : u_T} {Nn ci id b : Nat} {fs : List Value} (hM : zCt E0 y (ws_ y bytes maxL ret) rm (.ref b :: As) w T) (hW : GoodIn lw_all (wsV own index C y (ws_ y bytes maxL ret))) (hdd : y.cls = C ∧ y.cls ≠ "java/lang/invoke/MethodHandle" ∧ y.cls ≠ "java/lang/invoke/VarHandle" ∧ (parseMethodDescriptor y.desc).map (fun d => d.parameters.length) = some n) (hR : rm.frames + 1 ≤ R0.frames ∧ 8 + (maxL + 11) + rm.locals ≤ R0.locals) (hn : As.length = n) (hrest : (rest.map fun v => v.category).sum ≤ 8) (hf : c0 + rm.cells ≤ R0.cells ∧ s0 + rm.slots ≤ R0.slots) (hc1 : c0 + rm.cells ≤ c1) (hs1 : s0 + rm.slots ≤ s1) (hcl : zCl[ci]? = some (C, Tt, Nn)) (hw : w id = some (b, .inr (ci, fs))) (hst : st = As.reverse ++ .ref b :: rest) (hd : decode cc pc = .ok (.invokevirtual index, 3)) (h : ∀ v w', T v w' → Z Y w' c1 s1 (pc + 3) lv (v.toList ++ rest)) : Z Y w c0 s0 pc lv st := by
  obtain ⟨E, A, nL, p, l, e, R, s, m, args, below, meth, c, Q⟩ := Y
  obtain ⟨rfl, rfl, rfl, hok, hwarm, hx, hb, hml, hown, hts, hA, hold, hlk, htr0⟩ := G
  intro H locs cells slots ls hP hI hN hS hc hs hl
  exact z_behind (va_runV (As := As) (rest := rest) ⟨hx, hb, hml, hown, hts⟩ (hM l H.size htr0) (cwV n hts hW rfl rfl rfl hdd hR) ⟨z_blind, va_recv (zK hok hwarm) (hP.one hw) hcl (q0 := 0) rfl, z_pre hP hI hwarm hold hS hN⟩ rfl hn hl.1 hst (lv_room hrest) hd ⟨Nat.le_trans (Nat.add_le_add_right hc _) hf.1, Nat.le_trans (Nat.add_le_add_right hs _) hf.2⟩) hN hA hS (Nat.le_trans (Nat.add_le_add_right hc _) hc1) (Nat.le_trans (Nat.add_le_add_right hs _) hs1) hl h
theorem z_callS {Y : zC} {E0 : zE} {cc : ByteArray} {nL0 : Nat} {own : String} {R0 : Room} (G : zG Y E0 cc nL0 own R0) {w : zM} {c0 s0 pc : Nat} {lv : List (Option Value)} {st : List Value} {y : MethodName} {bytes : ByteArray} {maxL index n c1 s1 : Nat} {ret : Option FieldType} {rm : Room} {T : Option Value → zM → Prop} {As rest : List Value} (hM : zCt E0 y (ws_ y bytes maxL ret) rm As w T) (hW : GoodIn lw_all (va_wsS own index y (ws_ y bytes maxL ret))) (hdd : y.cls ≠ "java/lang/invoke/MethodHandle" ∧ y.cls ≠ "java/lang/invoke/VarHandle" ∧ (parseMethodDescriptor y.desc).map (fun d => d.parameters.length) = some n) (hR : rm.frames + 1 ≤ R0.frames ∧ 8 + (maxL + 11) + rm.locals ≤ R0.locals) (hn : As.length = n) (hrest : (rest.map fun v => v.category).sum ≤ 8) (hf : c0 + rm.cells ≤ R0.cells ∧ s0 + rm.slots ≤ R0.slots) (hc1 : c0 + rm.cells ≤ c1) (hs1 : s0 + rm.slots ≤ s1) (hst : st = As.reverse ++ rest) (hd : decode cc pc = .ok (.invokestatic index, 3)) (h : ∀ v w', T v w' → Z Y w' c1 s1 (pc + 3) lv (v.toList ++ rest)) : Z Y w c0 s0 pc lv st := by
  obtain ⟨E, A, nL, p, l, e, R, s, m, args, below, meth, c, Q⟩ := Y
  obtain ⟨rfl, rfl, rfl, hok, hwarm, hx, hb, hml, hown, hts, hA, hold, hlk, htr0⟩ := G
  intro H locs cells slots ls hP hI hN hS hc hs hl
  exact z_behind (va_runS (As := As) (rest := rest) ⟨hx, hb, hml, hown, hts⟩ (hM l H.size htr0) (va_cwS n hts hW rfl rfl rfl hdd hR) ⟨z_blind, z_pre hP hI hwarm hold hS hN⟩ rfl hn hl.1 hst (lv_room hrest) hd ⟨Nat.le_trans (Nat.add_le_add_right hc _) hf.1, Nat.le_trans (Nat.add_le_add_right hs _) hf.2⟩) hN hA hS (Nat.le_trans (Nat.add_le_add_right hc _) hc1) (Nat.le_trans (Nat.add_le_add_right hs _) hs1) hl h
theorem z_callI {Y : zC} {E0 : zE} {cc : ByteArray} {nL0 : Nat} {own : String} {R0 : Room} (G : zG Y E0 cc nL0 own R0) {w : zM} {c0 s0 pc : Nat} {lv : List (Option Value)} {st : List Value} {y : MethodName} {bytes : ByteArray} {maxL index n c1 s1 : Nat} {rm : Room} {T : Option Value → zM → Prop} {As rest : List Value} {b : Nat} (hM : zCt E0 y (ws_ y bytes maxL none) rm (.ref b :: As) w T) (hW : GoodIn lw_all (ws_ y bytes maxL none)) (hini : Cond.initialized y.cls ∈ lw_all) (hlk9 : Cond.methodLink own index y ∈ lw_all) (him : Cond.instanceMethod y ∈ lw_all) (hy1 : y.name = "<init>") (hdd : y.cls ≠ "java/lang/invoke/MethodHandle" ∧ y.cls ≠ "java/lang/invoke/VarHandle" ∧ (parseMethodDescriptor y.desc).map (fun d => d.parameters.length) = some n) (hR : rm.frames + 1 ≤ R0.frames ∧ 8 + (maxL + 11) + rm.locals ≤ R0.locals) (hn : As.length = n) (hrest : (rest.map fun v => v.category).sum ≤ 8) (hf : c0 + rm.cells ≤ R0.cells ∧ s0 + rm.slots ≤ R0.slots) (hc1 : c0 + rm.cells ≤ c1) (hs1 : s0 + rm.slots ≤ s1) (hst : st = As.reverse ++ .ref b :: rest) (hd : decode cc pc = .ok (.invokespecial index, 3)) (h : ∀ v w', T v w' → Z Y w' c1 s1 (pc + 3) lv (v.toList ++ rest)) : Z Y w c0 s0 pc lv st := by
  obtain ⟨E, A, nL, p, l, e, R, s, m, args, below, meth, c, Q⟩ := Y
  obtain ⟨rfl, rfl, rfl, hok, hwarm, hx, hb, hml, hown, hts, hA, hold, hlk, htr0⟩ := G
  intro H locs cells slots ls hP hI hN hS hc hs hl
  exact z_behind (va_runI (As := As) (rest := rest) ⟨hx, hb, hml, hown, hts⟩ (hM l H.size htr0) (cwI n hts hW rfl rfl rfl (hts _ hini) (hts _ hlk9) (hts _ him) hy1 hdd hR) ⟨z_blind, z_pre hP hI hwarm hold hS hN⟩ rfl hn hl.1 hst (lv_room hrest) hd ⟨Nat.le_trans (Nat.add_le_add_right hc _) hf.1, Nat.le_trans (Nat.add_le_add_right hs _) hf.2⟩) hN hA hS (Nat.le_trans (Nat.add_le_add_right hc _) hc1) (Nat.le_trans (Nat.add_le_add_right hs _) hs1) hl h
