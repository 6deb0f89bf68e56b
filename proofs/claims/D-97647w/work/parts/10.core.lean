/-! CORE: worlds as partial maps from cell numbers to (address, cell); one context Y for a whole walk; the judgement Z and a row an instruction -/
abbrev zM : Type := Nat → Option (Nat × va_E)
abbrev zCl : List vw_C := [(RX0, TX0, 23), (RX1, TX1, 25), (RX2, TX2, 2), (RX3, TX3, 3), (RX4, TX4, 4), (RX5, TX5, 3), (RX6, TX6, 4), (RX7, TX7, 5)]
abbrev zTy (d : Nat → ClassId) : List (ClassId × FieldType) := [(d 0, .int), (d 1, .byte), (d 2, .boolean), (d 3, .long), (d 4, .array .int), (d 5, .array .byte), (d 6, .object "NeitherBare$Clause")]
/-- the start of the run: its state, its script's address, the classes' numbers and slots, the arrays' classes -/
abbrev zE : Type := State × Nat × va_G × (Nat → ClassId)
def zOk (E : zE) : Prop := (∀ w ∈ lw_tbl, w.before #[Value.ref E.2.1] E.1 = true) ∧ (Jvm.Cond.and given_1 narrow_1).before #[Value.ref E.2.1] E.1 = true ∧ va_K E.2.2.1 zCl (zTy E.2.2.2) E.1 ∧ modulesRight_1 E.1 = true
def zP (D : va_G) (w : zM) (H : Heap) : Prop := ∀ (k : Nat) (q : Nat × va_E), w k = some q → va_at D zCl q H
def zI (w : zM) : Prop := ∀ (i j : Nat) (p q : Nat × va_E), w i = some p → w j = some q → p.1 = q.1 → i = j
def zIn (A : Nat → Prop) (w : zM) : Prop := ∀ (k : Nat) (q : Nat × va_E), w k = some q → A q.1
def zA (w : zM) (sz : Nat) : Nat → Prop := fun q => (∃ (k : Nat) (e : va_E), w k = some (q, e)) ∨ sz ≤ q
theorem zP.one {D : va_G} {w : zM} {H : Heap} (h : zP D w H) {k : Nat} {q : Nat × va_E} (hq : w k = some q) : va_P D zCl [q] H := by
  intro i x hx
  match i, hx with
  | 0, hx => cases hx; exact h k q hq
  | i + 1, hx => simp at hx
theorem zP.set {D : va_G} {w w' : zM} {H H1 : Heap} {c : Nat} {a : Nat} {e0 e : va_E} (h : zP D w H) (hI : zI w) (hc : w c = some (a, e0)) (he : va_at D zCl (a, e) H1) (oq : ∀ q : Nat, q ≠ a → H1[q]? = H[q]?)
    (hc' : w' c = some (a, e)) (ho : ∀ k, k ≠ c → w' k = w k) : zP D w' H1 := by
  intro k q hk
  by_cases hkc : k = c
  · subst hkc
    rw [hc'] at hk
    cases hk
    exact he
  · rw [ho k hkc] at hk
    exact (h k q hk).kept (oq q.1 (fun z => hkc (hI k c q (a, e0) hk hc z)))
theorem zI.set {w w' : zM} {c : Nat} {a : Nat} {e0 e : va_E} (hI : zI w) (hc : w c = some (a, e0)) (hc' : w' c = some (a, e)) (ho : ∀ k, k ≠ c → w' k = w k) : zI w' := by
  have key : ∀ k q, w' k = some q → ∃ q0, w k = some q0 ∧ q0.1 = q.1 := by
    intro k q hk
    by_cases hkc : k = c
    · subst hkc
      rw [hc'] at hk
      cases hk
      exact ⟨_, hc, rfl⟩
    · rw [ho k hkc] at hk
      exact ⟨q, hk, rfl⟩
  intro i j x y hi hj hxy
  obtain ⟨x0, h1, h2⟩ := key i x hi
  obtain ⟨y0, h3, h4⟩ := key j y hj
  exact hI i j x0 y0 h1 h3 (h2.trans (hxy.trans h4.symm))
theorem zIn.set {A : Nat → Prop} {w w' : zM} {c : Nat} {a : Nat} {e0 e : va_E} (hN : zIn A w) (hc : w c = some (a, e0)) (hc' : w' c = some (a, e)) (ho : ∀ k, k ≠ c → w' k = w k) : zIn A w' := by
  intro k q hk
  by_cases hkc : k = c
  · subst hkc
    rw [hc'] at hk
    cases hk
    exact hN _ (a, e0) hc
  · rw [ho k hkc] at hk
    exact hN k q hk
theorem zA.mono {w : zM} {sz : Nat} {A : Nat → Prop} (hN : zIn A w) (hA : ∀ q, sz ≤ q → A q) : ∀ q, zA w sz q → A q := by
  intro q h
  rcases h with ⟨k, e, h⟩ | h
  · exact hN k _ h
  · exact hA q h
/-- the locals as a list by their places -/
def zl : Nat → List (Option Value) → List (Nat × Value)
  | _, [] => []
  | k, none :: t => zl (k + 1) t
  | k, some v :: t => (k, v) :: zl (k + 1) t
theorem zl_at : ∀ (L : List (Option Value)) (k i : Nat) (v : Value), L[i]? = some (some v) → (k + i, v) ∈ zl k L
  | [], k, i, v, h => by simp at h
  | none :: t, k, 0, v, h => by simp at h
  | some u :: t, k, 0, v, h => by simp at h; subst h; exact List.mem_cons_self
  | none :: t, k, i + 1, v, h => by
    have := zl_at t (k + 1) i v (by simpa using h)
    rw [show k + (i + 1) = k + 1 + i by omega]
    exact this
  | some u :: t, k, i + 1, v, h => by
    have := zl_at t (k + 1) i v (by simpa using h)
    rw [show k + (i + 1) = k + 1 + i by omega]
    exact List.mem_cons_of_mem _ this
theorem zl_mem : ∀ (L : List (Option Value)) (k j : Nat) (v : Value), (j, v) ∈ zl k L → ∃ i, j = k + i ∧ L[i]? = some (some v)
  | [], k, j, v, h => by simp [zl] at h
  | none :: t, k, j, v, h => by
    obtain ⟨i, h1, h2⟩ := zl_mem t (k + 1) j v h
    exact ⟨i + 1, by omega, by simpa using h2⟩
  | some u :: t, k, j, v, h => by
    rcases List.mem_cons.mp h with h | h
    · cases h
      exact ⟨0, rfl, rfl⟩
    · obtain ⟨i, h1, h2⟩ := zl_mem t (k + 1) j v h
      exact ⟨i + 1, by omega, by simpa using h2⟩
def zclr (L : List (Option Value)) (i : Nat) : List (Option Value) := match i with
  | 0 => L
  | j + 1 => match L[j]? with
    | some (some (.long _)) => L.set j none
    | some (some (.double _)) => L.set j none
    | _ => L
def zst (L : List (Option Value)) (i : Nat) (v : Value) : List (Option Value) := (zclr L i).set i (some v)
def zst2 (L : List (Option Value)) (i : Nat) (v : Value) : List (Option Value) := ((zclr L i).set i (some v)).set (i + 1) none
theorem zclr_at {L : List (Option Value)} {i j : Nat} {u : Value} (h : (zclr L i)[j]? = some (some u)) : L[j]? = some (some u) ∧ ¬ (j + 1 = i ∧ u.category = 2) := by
  unfold zclr at h
  cases i with
  | zero => exact ⟨h, by omega⟩
  | succ i =>
    dsimp only at h
    have key : ∀ (L' : List (Option Value)), L' = L.set i none → L'[j]? = some (some u) → L[j]? = some (some u) ∧ ¬ (j + 1 = i + 1 ∧ u.category = 2) := by
      intro L' e h
      subst e
      by_cases hj : i = j
      · subst hj
        rw [List.getElem?_set] at h
        split at h
        · split at h <;> simp at h
        · omega
      · rw [List.getElem?_set_ne hj] at h
        exact ⟨h, by omega⟩
    split at h
    · exact key _ rfl h
    · exact key _ rfl h
    · rename_i h1 h2
      refine ⟨h, fun ⟨h3, h4⟩ => ?_⟩
      have hj : j = i := by omega
      subst hj
      cases u with
      | long x => exact h1 x h
      | double x => exact h2 x h
      | _ => simp [Value.category] at h4
theorem zst_sub {L : List (Option Value)} {i : Nat} {v : Value} : ∀ q ∈ zl 0 (zst L i v), q ∈ (i, v) :: (zl 0 L).filter (fun q => !(q.1 == i) && !(q.1 + 1 == i && q.2.category == 2)) := by
  intro q hq
  obtain ⟨j, u⟩ := q
  obtain ⟨j', h1, h2⟩ := zl_mem _ _ _ _ hq
  have hj : j = j' := by omega
  subst hj
  unfold zst at h2
  by_cases hji : i = j
  · subst hji
    rw [List.getElem?_set] at h2
    split at h2
    · split at h2
      · simp at h2; subst h2; exact List.mem_cons_self
      · simp at h2
    · omega
  · rw [List.getElem?_set_ne hji] at h2
    obtain ⟨h3, h4⟩ := zclr_at h2
    refine List.mem_cons_of_mem _ (List.mem_filter.mpr ⟨by simpa using zl_at L 0 j u h3, ?_⟩)
    simp only [Bool.and_eq_true, Bool.not_eq_true', beq_eq_false_iff_ne, Bool.and_eq_false_iff, ne_eq]
    refine ⟨fun h => hji h.symm, ?_⟩
    by_cases hc : j + 1 = i
    · right; exact fun h => h4 ⟨hc, h⟩
    · left; exact hc
theorem zst2_sub {L : List (Option Value)} {i : Nat} {v : Value} : ∀ q ∈ zl 0 (zst2 L i v), q ∈ (i, v) :: (zl 0 L).filter (fun q => !(q.1 == i) && (!(q.1 == i + 1) && !(q.1 + 1 == i && q.2.category == 2))) := by
  intro q hq
  obtain ⟨j, u⟩ := q
  obtain ⟨j', h1, h2⟩ := zl_mem _ _ _ _ hq
  have hj : j = j' := by omega
  subst hj
  unfold zst2 at h2
  by_cases hj1 : i + 1 = j
  · subst hj1
    rw [List.getElem?_set] at h2
    split at h2
    · split at h2 <;> simp at h2
    · omega
  · rw [List.getElem?_set_ne hj1] at h2
    by_cases hji : i = j
    · subst hji
      rw [List.getElem?_set] at h2
      split at h2
      · split at h2
        · simp at h2; subst h2; exact List.mem_cons_self
        · simp at h2
      · omega
    · rw [List.getElem?_set_ne hji] at h2
      obtain ⟨h3, h4⟩ := zclr_at h2
      refine List.mem_cons_of_mem _ (List.mem_filter.mpr ⟨by simpa using zl_at L 0 j u h3, ?_⟩)
      simp only [Bool.and_eq_true, Bool.not_eq_true', beq_eq_false_iff_ne, Bool.and_eq_false_iff, ne_eq]
      refine ⟨fun h => hji h.symm, fun h => hj1 h.symm, ?_⟩
      by_cases hc : j + 1 = i
      · right; exact fun h => h4 ⟨hc, h⟩
      · left; exact hc
theorem zl_less {ls : Array Slot} {nL : Nat} {l l' : List (Nat × Value)} (h : lv_has ls nL l) (hs : ∀ q ∈ l', q ∈ l) : lv_has ls nL l' := ⟨h.1, h.2.1, fun q hq => h.2.2 q (hs q hq)⟩
theorem zl_get {ls : Array Slot} {nL i : Nat} {L : List (Option Value)} {v : Value} (h : lv_has ls nL (zl 0 L)) (hi : L[i]? = some (some v)) : ls[i]? = some (.val v) := h.2.2 (i, v) (by simpa using zl_at L 0 i v hi)
/-- fewer locals known -/
def zsub (L L' : List (Option Value)) : Prop := ∀ (i : Nat) (v : Value), L'[i]? = some (some v) → L[i]? = some (some v)
theorem zsub_0 {L : List (Option Value)} : zsub L [] := fun i v h => by simp at h
theorem zsub_n {L L' : List (Option Value)} {x : Option Value} (h : zsub L L') : zsub (x :: L) (none :: L') := fun i v hi => by
  cases i with
  | zero => simp at hi
  | succ i => simpa using h i v (by simpa using hi)
theorem zsub_s {L L' : List (Option Value)} {x : Option Value} (h : zsub L L') : zsub (x :: L) (x :: L') := fun i v hi => by
  cases i with
  | zero => simpa using hi
  | succ i => simpa using h i v (by simpa using hi)
theorem zl_sub {ls : Array Slot} {nL : Nat} {L L' : List (Option Value)} (h : lv_has ls nL (zl 0 L)) (hs : zsub L L') : lv_has ls nL (zl 0 L') := zl_less h (fun q hq => by
  obtain ⟨i, h1, h2⟩ := zl_mem L' 0 q.1 q.2 hq
  have := zl_at L 0 i q.2 (hs i q.2 h2)
  rw [← h1] at this
  exact this)
/-- the context of one walk -/
abbrev zC : Type := zE × (Nat → Prop) × Nat × Program × Launch × Env × Room × State × MethodId × Array Value × List Frame × Method × Code × (State → Prop)
def Z (Y : zC) (w : zM) (c0 s0 : Nat) (pc : Nat) (lv : List (Option Value)) (st : List Value) : Prop := match Y with
  | (E, A, nL, p, l, e, R, s, m, args, below, meth, c, Q) => ∀ (H : Heap) (locs : List Loc) (cells slots : Nat) (ls : Array Slot), zP E.2.2.1 w H → zI w → zIn A w → va_S A s.heap H locs → cells ≤ c0 → slots ≤ s0 → lv_has ls nL (zl 0 lv) → W p l e R s m args below meth c H locs cells slots Q (F0 m pc ls st)
/-- what was there at the run's start is there still -/
def zOld (E : zE) (H : Heap) : Prop := E.1.heap.size ≤ H.size ∧ ∀ q : Nat, q < E.1.heap.size → H[q]? = E.1.heap[q]?
def zG (Y : zC) (E0 : zE) (cc : ByteArray) (nL0 : Nat) (own : String) (R0 : Room) : Prop := match Y with
  | (E, A, nL, p, l, _, R, s, m, args, _, meth, c, _) => E = E0 ∧ nL = nL0 ∧ R = R0 ∧ zOk E ∧ E.1.WarmedH s.vm ∧ p.tables.exec = Jvm.exec ∧ c.code = cc ∧ c.maxLocals = nL ∧ s.vm.findClass own = some m.cls ∧ (∀ w ∈ lw_all, w.before args s = true) ∧ (∀ q, s.heap.size ≤ q → A q) ∧ (zOld E s.heap ∧ ∀ q, A q → E.1.heap.size ≤ q ∧ ∀ cell, s.heap[q]? = some cell → cell.vm.isStatics = false) ∧ meth.locks = false ∧ l.stackTraces = false
theorem zK {E : zE} {s : State} (h : zOk E) (hW : E.1.WarmedH s.vm) : va_K E.2.2.1 zCl (zTy E.2.2.2) s := va_K.moved hW.alike h.2.2.1
/-! the pure side's words -/
def bnd {α β : Type} (x : α) (f : α → β) : β := f x
theorem bnd_e {α β : Type} {x y : α} {f : α → β} {r : β} (hy : y = x) (h : bnd x f = r) : f y = r := by subst hy; exact h
def ck {α : Type} (i : Int32) (n : Nat) (x : Option α) : Option α := if i < 0 ∨ n ≤ i.toNatClampNeg then none else x
theorem ck_e {α : Type} {i : Int32} {n : Nat} {x : Option α} {r : α} (h : ck i n x = some r) : vp_in i n ∧ x = some r := by
  unfold ck at h
  split at h
  · cases h
  · rename_i q
    exact ⟨q, h⟩
def nz {α : Type} (y : Int32) (x : Option α) : Option α := if y = 0 then none else x
theorem nz_e {α : Type} {y : Int32} {x : Option α} {r : α} (h : nz y x = some r) : ¬ y = 0 ∧ x = some r := by
  unfold nz at h
  split at h
  · cases h
  · rename_i q
    exact ⟨q, h⟩
def nzL {α : Type} (y : Int64) (x : Option α) : Option α := if y = 0 then none else x
theorem nzL_e {α : Type} {y : Int64} {x : Option α} {r : α} (h : nzL y x = some r) : ¬ y = 0 ∧ x = some r := by
  unfold nzL at h
  split at h
  · cases h
  · rename_i q
    exact ⟨q, h⟩
def zb {α : Type} (v : Int32) (x : Option α) : Option α := if v = 0 ∨ v = 1 then x else none
theorem zb_e {α : Type} {v : Int32} {x : Option α} {r : α} (h : zb v x = some r) : narrow .boolean (.int v) = .int v ∧ x = some r := by
  unfold zb at h
  split at h
  · rename_i q
    refine ⟨?_, h⟩
    rcases q with rfl | rfl <;> rfl
  · cases h
def ifn {α : Type} (o : Option Nat) (a : Option α) (b : Nat → Option α) : Option α := match o with
  | none => a
  | some n => b n
theorem bind_e {α β : Type} {x : Option α} {f : α → Option β} {r : β} (h : x.bind f = some r) : ∃ v, x = some v ∧ f v = some r := by
  cases x with
  | none => cases h
  | some v => exact ⟨v, rfl, h⟩
theorem ite_t {α : Type} {c : Prop} [Decidable c] {a b : α} {r : α} (hc : c) (h : (if c then a else b) = r) : a = r := by rw [if_pos hc] at h; exact h
theorem ite_f {α : Type} {c : Prop} [Decidable c] {a b : α} {r : α} (hc : ¬ c) (h : (if c then a else b) = r) : b = r := by rw [if_neg hc] at h; exact h
theorem bite_t {α β : Type} {c : Prop} [Decidable c] {a b : Option α} {f : α → Option β} {r : Option β} (hc : c) (h : (if c then a else b).bind f = r) : a.bind f = r := by rw [if_pos hc] at h; exact h
theorem bite_f {α β : Type} {c : Prop} [Decidable c] {a b : Option α} {f : α → Option β} {r : Option β} (hc : ¬ c) (h : (if c then a else b).bind f = r) : b.bind f = r := by rw [if_neg hc] at h; exact h
theorem bck_e {α β : Type} {i : Int32} {n : Nat} {x : Option α} {f : α → Option β} {r : β} (h : (ck i n x).bind f = some r) : vp_in i n ∧ x.bind f = some r := by
  unfold ck at h
  split at h
  · cases h
  · rename_i q
    exact ⟨q, h⟩
theorem bbnd_e {α β γ : Type} {x y : α} {g : α → Option γ} {f : γ → Option β} {r : Option β} (hy : y = x) (h : (bnd x g).bind f = r) : (g y).bind f = r := by subst hy; exact h
theorem bbind_e {α β γ : Type} {x : Option α} {g : α → Option γ} {f : γ → Option β} {r : β} (h : (x.bind g).bind f = some r) : ∃ v, x = some v ∧ (g v).bind f = some r := by
  cases x with
  | none => cases h
  | some v => exact ⟨v, rfl, h⟩

theorem z_iconst {Y : zC} {E0 : zE} {cc : ByteArray} {nL0 : Nat} {own : String} {R0 : Room} (G : zG Y E0 cc nL0 own R0) {w : zM} {c0 s0 pc : Nat} {lv : List (Option Value)} {st : List Value} {n : Int} {v : Int32} (hv : Int32.ofInt n = v) (hd : decode cc pc = .ok (.iconst n, 1)) (h : Z Y w c0 s0 (pc + 1) lv (.int v :: st)) : Z Y w c0 s0 pc lv (st) := by
  obtain ⟨E, A, nL, p, l, e, R, s, m, args, below, meth, c, Q⟩ := Y
  obtain ⟨rfl, rfl, rfl, hok, hwarm, hx, hb, hml, hown, hts, hA, hold, hlk, htr0⟩ := G
  intro H locs cells slots ls hP hI hN hS hc hs hl
  exact lv_iconst hx hb hd hv (h H locs cells slots ls hP hI hN hS hc hs hl)
theorem z_bipush {Y : zC} {E0 : zE} {cc : ByteArray} {nL0 : Nat} {own : String} {R0 : Room} (G : zG Y E0 cc nL0 own R0) {w : zM} {c0 s0 pc : Nat} {lv : List (Option Value)} {st : List Value} {n : Int} {v : Int32} (hv : (Int8.ofInt n).toInt32 = v) (hd : decode cc pc = .ok (.bipush n, 2)) (h : Z Y w c0 s0 (pc + 2) lv (.int v :: st)) : Z Y w c0 s0 pc lv (st) := by
  obtain ⟨E, A, nL, p, l, e, R, s, m, args, below, meth, c, Q⟩ := Y
  obtain ⟨rfl, rfl, rfl, hok, hwarm, hx, hb, hml, hown, hts, hA, hold, hlk, htr0⟩ := G
  intro H locs cells slots ls hP hI hN hS hc hs hl
  exact lv_bipush hx hb hd hv (h H locs cells slots ls hP hI hN hS hc hs hl)
theorem z_sipush {Y : zC} {E0 : zE} {cc : ByteArray} {nL0 : Nat} {own : String} {R0 : Room} (G : zG Y E0 cc nL0 own R0) {w : zM} {c0 s0 pc : Nat} {lv : List (Option Value)} {st : List Value} {n : Int} {v : Int32} (hv : (Int16.ofInt n).toInt32 = v) (hd : decode cc pc = .ok (.sipush n, 3)) (h : Z Y w c0 s0 (pc + 3) lv (.int v :: st)) : Z Y w c0 s0 pc lv (st) := by
  obtain ⟨E, A, nL, p, l, e, R, s, m, args, below, meth, c, Q⟩ := Y
  obtain ⟨rfl, rfl, rfl, hok, hwarm, hx, hb, hml, hown, hts, hA, hold, hlk, htr0⟩ := G
  intro H locs cells slots ls hP hI hN hS hc hs hl
  exact lv_sipush hx hb hd hv (h H locs cells slots ls hP hI hN hS hc hs hl)
theorem z_lconst {Y : zC} {E0 : zE} {cc : ByteArray} {nL0 : Nat} {own : String} {R0 : Room} (G : zG Y E0 cc nL0 own R0) {w : zM} {c0 s0 pc : Nat} {lv : List (Option Value)} {st : List Value} {n : Fin 2} {v : Int64} (hv : Int64.ofNat (n : Nat) = v) (hd : decode cc pc = .ok (.lconst n, 1)) (h : Z Y w c0 s0 (pc + 1) lv (.long v :: st)) : Z Y w c0 s0 pc lv (st) := by
  obtain ⟨E, A, nL, p, l, e, R, s, m, args, below, meth, c, Q⟩ := Y
  obtain ⟨rfl, rfl, rfl, hok, hwarm, hx, hb, hml, hown, hts, hA, hold, hlk, htr0⟩ := G
  intro H locs cells slots ls hP hI hN hS hc hs hl
  exact lv_lconst hx hb hd hv (h H locs cells slots ls hP hI hN hS hc hs hl)
theorem z_iadd {Y : zC} {E0 : zE} {cc : ByteArray} {nL0 : Nat} {own : String} {R0 : Room} (G : zG Y E0 cc nL0 own R0) {w : zM} {c0 s0 pc : Nat} {lv : List (Option Value)} {st : List Value} {x y : Int32} (hd : decode cc pc = .ok (.iadd, 1)) (h : Z Y w c0 s0 (pc + 1) lv (.int (x + y) :: st)) : Z Y w c0 s0 pc lv (.int y :: .int x :: st) := by
  obtain ⟨E, A, nL, p, l, e, R, s, m, args, below, meth, c, Q⟩ := Y
  obtain ⟨rfl, rfl, rfl, hok, hwarm, hx, hb, hml, hown, hts, hA, hold, hlk, htr0⟩ := G
  intro H locs cells slots ls hP hI hN hS hc hs hl
  exact lv_iadd hx hb hd (h H locs cells slots ls hP hI hN hS hc hs hl)
theorem z_isub {Y : zC} {E0 : zE} {cc : ByteArray} {nL0 : Nat} {own : String} {R0 : Room} (G : zG Y E0 cc nL0 own R0) {w : zM} {c0 s0 pc : Nat} {lv : List (Option Value)} {st : List Value} {x y : Int32} (hd : decode cc pc = .ok (.isub, 1)) (h : Z Y w c0 s0 (pc + 1) lv (.int (x - y) :: st)) : Z Y w c0 s0 pc lv (.int y :: .int x :: st) := by
  obtain ⟨E, A, nL, p, l, e, R, s, m, args, below, meth, c, Q⟩ := Y
  obtain ⟨rfl, rfl, rfl, hok, hwarm, hx, hb, hml, hown, hts, hA, hold, hlk, htr0⟩ := G
  intro H locs cells slots ls hP hI hN hS hc hs hl
  exact lv_isub hx hb hd (h H locs cells slots ls hP hI hN hS hc hs hl)
theorem z_imul {Y : zC} {E0 : zE} {cc : ByteArray} {nL0 : Nat} {own : String} {R0 : Room} (G : zG Y E0 cc nL0 own R0) {w : zM} {c0 s0 pc : Nat} {lv : List (Option Value)} {st : List Value} {x y : Int32} (hd : decode cc pc = .ok (.imul, 1)) (h : Z Y w c0 s0 (pc + 1) lv (.int (x * y) :: st)) : Z Y w c0 s0 pc lv (.int y :: .int x :: st) := by
  obtain ⟨E, A, nL, p, l, e, R, s, m, args, below, meth, c, Q⟩ := Y
  obtain ⟨rfl, rfl, rfl, hok, hwarm, hx, hb, hml, hown, hts, hA, hold, hlk, htr0⟩ := G
  intro H locs cells slots ls hP hI hN hS hc hs hl
  exact lv_imul hx hb hd (h H locs cells slots ls hP hI hN hS hc hs hl)
theorem z_iand {Y : zC} {E0 : zE} {cc : ByteArray} {nL0 : Nat} {own : String} {R0 : Room} (G : zG Y E0 cc nL0 own R0) {w : zM} {c0 s0 pc : Nat} {lv : List (Option Value)} {st : List Value} {x y : Int32} (hd : decode cc pc = .ok (.iand, 1)) (h : Z Y w c0 s0 (pc + 1) lv (.int (x &&& y) :: st)) : Z Y w c0 s0 pc lv (.int y :: .int x :: st) := by
  obtain ⟨E, A, nL, p, l, e, R, s, m, args, below, meth, c, Q⟩ := Y
  obtain ⟨rfl, rfl, rfl, hok, hwarm, hx, hb, hml, hown, hts, hA, hold, hlk, htr0⟩ := G
  intro H locs cells slots ls hP hI hN hS hc hs hl
  exact lv_iand hx hb hd (h H locs cells slots ls hP hI hN hS hc hs hl)
theorem z_ior {Y : zC} {E0 : zE} {cc : ByteArray} {nL0 : Nat} {own : String} {R0 : Room} (G : zG Y E0 cc nL0 own R0) {w : zM} {c0 s0 pc : Nat} {lv : List (Option Value)} {st : List Value} {x y : Int32} (hd : decode cc pc = .ok (.ior, 1)) (h : Z Y w c0 s0 (pc + 1) lv (.int (x ||| y) :: st)) : Z Y w c0 s0 pc lv (.int y :: .int x :: st) := by
  obtain ⟨E, A, nL, p, l, e, R, s, m, args, below, meth, c, Q⟩ := Y
  obtain ⟨rfl, rfl, rfl, hok, hwarm, hx, hb, hml, hown, hts, hA, hold, hlk, htr0⟩ := G
  intro H locs cells slots ls hP hI hN hS hc hs hl
  exact lv_ior hx hb hd (h H locs cells slots ls hP hI hN hS hc hs hl)
theorem z_ixor {Y : zC} {E0 : zE} {cc : ByteArray} {nL0 : Nat} {own : String} {R0 : Room} (G : zG Y E0 cc nL0 own R0) {w : zM} {c0 s0 pc : Nat} {lv : List (Option Value)} {st : List Value} {x y : Int32} (hd : decode cc pc = .ok (.ixor, 1)) (h : Z Y w c0 s0 (pc + 1) lv (.int (x ^^^ y) :: st)) : Z Y w c0 s0 pc lv (.int y :: .int x :: st) := by
  obtain ⟨E, A, nL, p, l, e, R, s, m, args, below, meth, c, Q⟩ := Y
  obtain ⟨rfl, rfl, rfl, hok, hwarm, hx, hb, hml, hown, hts, hA, hold, hlk, htr0⟩ := G
  intro H locs cells slots ls hP hI hN hS hc hs hl
  exact lv_ixor hx hb hd (h H locs cells slots ls hP hI hN hS hc hs hl)
theorem z_ishl {Y : zC} {E0 : zE} {cc : ByteArray} {nL0 : Nat} {own : String} {R0 : Room} (G : zG Y E0 cc nL0 own R0) {w : zM} {c0 s0 pc : Nat} {lv : List (Option Value)} {st : List Value} {x y : Int32} (hd : decode cc pc = .ok (.ishl, 1)) (h : Z Y w c0 s0 (pc + 1) lv (.int (x <<< (y &&& 31)) :: st)) : Z Y w c0 s0 pc lv (.int y :: .int x :: st) := by
  obtain ⟨E, A, nL, p, l, e, R, s, m, args, below, meth, c, Q⟩ := Y
  obtain ⟨rfl, rfl, rfl, hok, hwarm, hx, hb, hml, hown, hts, hA, hold, hlk, htr0⟩ := G
  intro H locs cells slots ls hP hI hN hS hc hs hl
  exact lv_ishl hx hb hd (h H locs cells slots ls hP hI hN hS hc hs hl)
theorem z_ishr {Y : zC} {E0 : zE} {cc : ByteArray} {nL0 : Nat} {own : String} {R0 : Room} (G : zG Y E0 cc nL0 own R0) {w : zM} {c0 s0 pc : Nat} {lv : List (Option Value)} {st : List Value} {x y : Int32} (hd : decode cc pc = .ok (.ishr, 1)) (h : Z Y w c0 s0 (pc + 1) lv (.int (x >>> (y &&& 31)) :: st)) : Z Y w c0 s0 pc lv (.int y :: .int x :: st) := by
  obtain ⟨E, A, nL, p, l, e, R, s, m, args, below, meth, c, Q⟩ := Y
  obtain ⟨rfl, rfl, rfl, hok, hwarm, hx, hb, hml, hown, hts, hA, hold, hlk, htr0⟩ := G
  intro H locs cells slots ls hP hI hN hS hc hs hl
  exact lv_ishr hx hb hd (h H locs cells slots ls hP hI hN hS hc hs hl)
theorem z_ladd {Y : zC} {E0 : zE} {cc : ByteArray} {nL0 : Nat} {own : String} {R0 : Room} (G : zG Y E0 cc nL0 own R0) {w : zM} {c0 s0 pc : Nat} {lv : List (Option Value)} {st : List Value} {x y : Int64} (hd : decode cc pc = .ok (.ladd, 1)) (h : Z Y w c0 s0 (pc + 1) lv (.long (x + y) :: st)) : Z Y w c0 s0 pc lv (.long y :: .long x :: st) := by
  obtain ⟨E, A, nL, p, l, e, R, s, m, args, below, meth, c, Q⟩ := Y
  obtain ⟨rfl, rfl, rfl, hok, hwarm, hx, hb, hml, hown, hts, hA, hold, hlk, htr0⟩ := G
  intro H locs cells slots ls hP hI hN hS hc hs hl
  exact lv_ladd hx hb hd (h H locs cells slots ls hP hI hN hS hc hs hl)
theorem z_lsub {Y : zC} {E0 : zE} {cc : ByteArray} {nL0 : Nat} {own : String} {R0 : Room} (G : zG Y E0 cc nL0 own R0) {w : zM} {c0 s0 pc : Nat} {lv : List (Option Value)} {st : List Value} {x y : Int64} (hd : decode cc pc = .ok (.lsub, 1)) (h : Z Y w c0 s0 (pc + 1) lv (.long (x - y) :: st)) : Z Y w c0 s0 pc lv (.long y :: .long x :: st) := by
  obtain ⟨E, A, nL, p, l, e, R, s, m, args, below, meth, c, Q⟩ := Y
  obtain ⟨rfl, rfl, rfl, hok, hwarm, hx, hb, hml, hown, hts, hA, hold, hlk, htr0⟩ := G
  intro H locs cells slots ls hP hI hN hS hc hs hl
  exact lv_lsub hx hb hd (h H locs cells slots ls hP hI hN hS hc hs hl)
theorem z_lmul {Y : zC} {E0 : zE} {cc : ByteArray} {nL0 : Nat} {own : String} {R0 : Room} (G : zG Y E0 cc nL0 own R0) {w : zM} {c0 s0 pc : Nat} {lv : List (Option Value)} {st : List Value} {x y : Int64} (hd : decode cc pc = .ok (.lmul, 1)) (h : Z Y w c0 s0 (pc + 1) lv (.long (x * y) :: st)) : Z Y w c0 s0 pc lv (.long y :: .long x :: st) := by
  obtain ⟨E, A, nL, p, l, e, R, s, m, args, below, meth, c, Q⟩ := Y
  obtain ⟨rfl, rfl, rfl, hok, hwarm, hx, hb, hml, hown, hts, hA, hold, hlk, htr0⟩ := G
  intro H locs cells slots ls hP hI hN hS hc hs hl
  exact lv_lmul hx hb hd (h H locs cells slots ls hP hI hN hS hc hs hl)
theorem z_land {Y : zC} {E0 : zE} {cc : ByteArray} {nL0 : Nat} {own : String} {R0 : Room} (G : zG Y E0 cc nL0 own R0) {w : zM} {c0 s0 pc : Nat} {lv : List (Option Value)} {st : List Value} {x y : Int64} (hd : decode cc pc = .ok (.land, 1)) (h : Z Y w c0 s0 (pc + 1) lv (.long (x &&& y) :: st)) : Z Y w c0 s0 pc lv (.long y :: .long x :: st) := by
  obtain ⟨E, A, nL, p, l, e, R, s, m, args, below, meth, c, Q⟩ := Y
  obtain ⟨rfl, rfl, rfl, hok, hwarm, hx, hb, hml, hown, hts, hA, hold, hlk, htr0⟩ := G
  intro H locs cells slots ls hP hI hN hS hc hs hl
  exact lv_land hx hb hd (h H locs cells slots ls hP hI hN hS hc hs hl)
theorem z_lor {Y : zC} {E0 : zE} {cc : ByteArray} {nL0 : Nat} {own : String} {R0 : Room} (G : zG Y E0 cc nL0 own R0) {w : zM} {c0 s0 pc : Nat} {lv : List (Option Value)} {st : List Value} {x y : Int64} (hd : decode cc pc = .ok (.lor, 1)) (h : Z Y w c0 s0 (pc + 1) lv (.long (x ||| y) :: st)) : Z Y w c0 s0 pc lv (.long y :: .long x :: st) := by
  obtain ⟨E, A, nL, p, l, e, R, s, m, args, below, meth, c, Q⟩ := Y
  obtain ⟨rfl, rfl, rfl, hok, hwarm, hx, hb, hml, hown, hts, hA, hold, hlk, htr0⟩ := G
  intro H locs cells slots ls hP hI hN hS hc hs hl
  exact lv_lor hx hb hd (h H locs cells slots ls hP hI hN hS hc hs hl)
theorem z_lxor {Y : zC} {E0 : zE} {cc : ByteArray} {nL0 : Nat} {own : String} {R0 : Room} (G : zG Y E0 cc nL0 own R0) {w : zM} {c0 s0 pc : Nat} {lv : List (Option Value)} {st : List Value} {x y : Int64} (hd : decode cc pc = .ok (.lxor, 1)) (h : Z Y w c0 s0 (pc + 1) lv (.long (x ^^^ y) :: st)) : Z Y w c0 s0 pc lv (.long y :: .long x :: st) := by
  obtain ⟨E, A, nL, p, l, e, R, s, m, args, below, meth, c, Q⟩ := Y
  obtain ⟨rfl, rfl, rfl, hok, hwarm, hx, hb, hml, hown, hts, hA, hold, hlk, htr0⟩ := G
  intro H locs cells slots ls hP hI hN hS hc hs hl
  exact lv_lxor hx hb hd (h H locs cells slots ls hP hI hN hS hc hs hl)
theorem z_idiv {Y : zC} {E0 : zE} {cc : ByteArray} {nL0 : Nat} {own : String} {R0 : Room} (G : zG Y E0 cc nL0 own R0) {w : zM} {c0 s0 pc : Nat} {lv : List (Option Value)} {st : List Value} {x y : Int32} (hne : ¬ y = 0) (hd : decode cc pc = .ok (.idiv, 1)) (h : Z Y w c0 s0 (pc + 1) lv (.int (x / y) :: st)) : Z Y w c0 s0 pc lv (.int y :: .int x :: st) := by
  obtain ⟨E, A, nL, p, l, e, R, s, m, args, below, meth, c, Q⟩ := Y
  obtain ⟨rfl, rfl, rfl, hok, hwarm, hx, hb, hml, hown, hts, hA, hold, hlk, htr0⟩ := G
  intro H locs cells slots ls hP hI hN hS hc hs hl
  exact lv_idiv hx hb hd hne (h H locs cells slots ls hP hI hN hS hc hs hl)
theorem z_irem {Y : zC} {E0 : zE} {cc : ByteArray} {nL0 : Nat} {own : String} {R0 : Room} (G : zG Y E0 cc nL0 own R0) {w : zM} {c0 s0 pc : Nat} {lv : List (Option Value)} {st : List Value} {x y : Int32} (hne : ¬ y = 0) (hd : decode cc pc = .ok (.irem, 1)) (h : Z Y w c0 s0 (pc + 1) lv (.int (x - x / y * y) :: st)) : Z Y w c0 s0 pc lv (.int y :: .int x :: st) := by
  obtain ⟨E, A, nL, p, l, e, R, s, m, args, below, meth, c, Q⟩ := Y
  obtain ⟨rfl, rfl, rfl, hok, hwarm, hx, hb, hml, hown, hts, hA, hold, hlk, htr0⟩ := G
  intro H locs cells slots ls hP hI hN hS hc hs hl
  exact lv_irem hx hb hd hne (h H locs cells slots ls hP hI hN hS hc hs hl)
theorem z_ldiv {Y : zC} {E0 : zE} {cc : ByteArray} {nL0 : Nat} {own : String} {R0 : Room} (G : zG Y E0 cc nL0 own R0) {w : zM} {c0 s0 pc : Nat} {lv : List (Option Value)} {st : List Value} {x y : Int64} (hne : ¬ y = 0) (hd : decode cc pc = .ok (.ldiv, 1)) (h : Z Y w c0 s0 (pc + 1) lv (.long (x / y) :: st)) : Z Y w c0 s0 pc lv (.long y :: .long x :: st) := by
  obtain ⟨E, A, nL, p, l, e, R, s, m, args, below, meth, c, Q⟩ := Y
  obtain ⟨rfl, rfl, rfl, hok, hwarm, hx, hb, hml, hown, hts, hA, hold, hlk, htr0⟩ := G
  intro H locs cells slots ls hP hI hN hS hc hs hl
  exact lv_ldiv hx hb hd hne (h H locs cells slots ls hP hI hN hS hc hs hl)
theorem z_lrem {Y : zC} {E0 : zE} {cc : ByteArray} {nL0 : Nat} {own : String} {R0 : Room} (G : zG Y E0 cc nL0 own R0) {w : zM} {c0 s0 pc : Nat} {lv : List (Option Value)} {st : List Value} {x y : Int64} (hne : ¬ y = 0) (hd : decode cc pc = .ok (.lrem, 1)) (h : Z Y w c0 s0 (pc + 1) lv (.long (x - x / y * y) :: st)) : Z Y w c0 s0 pc lv (.long y :: .long x :: st) := by
  obtain ⟨E, A, nL, p, l, e, R, s, m, args, below, meth, c, Q⟩ := Y
  obtain ⟨rfl, rfl, rfl, hok, hwarm, hx, hb, hml, hown, hts, hA, hold, hlk, htr0⟩ := G
  intro H locs cells slots ls hP hI hN hS hc hs hl
  exact lv_lrem hx hb hd hne (h H locs cells slots ls hP hI hN hS hc hs hl)
theorem z_ineg {Y : zC} {E0 : zE} {cc : ByteArray} {nL0 : Nat} {own : String} {R0 : Room} (G : zG Y E0 cc nL0 own R0) {w : zM} {c0 s0 pc : Nat} {lv : List (Option Value)} {st : List Value} {x : Int32} (hd : decode cc pc = .ok (.ineg, 1)) (h : Z Y w c0 s0 (pc + 1) lv (.int (-x) :: st)) : Z Y w c0 s0 pc lv (.int x :: st) := by
  obtain ⟨E, A, nL, p, l, e, R, s, m, args, below, meth, c, Q⟩ := Y
  obtain ⟨rfl, rfl, rfl, hok, hwarm, hx, hb, hml, hown, hts, hA, hold, hlk, htr0⟩ := G
  intro H locs cells slots ls hP hI hN hS hc hs hl
  exact lv_ineg hx hb hd (h H locs cells slots ls hP hI hN hS hc hs hl)
theorem z_i2l {Y : zC} {E0 : zE} {cc : ByteArray} {nL0 : Nat} {own : String} {R0 : Room} (G : zG Y E0 cc nL0 own R0) {w : zM} {c0 s0 pc : Nat} {lv : List (Option Value)} {st : List Value} {x : Int32} (hd : decode cc pc = .ok (.i2l, 1)) (h : Z Y w c0 s0 (pc + 1) lv (.long x.toInt64 :: st)) : Z Y w c0 s0 pc lv (.int x :: st) := by
  obtain ⟨E, A, nL, p, l, e, R, s, m, args, below, meth, c, Q⟩ := Y
  obtain ⟨rfl, rfl, rfl, hok, hwarm, hx, hb, hml, hown, hts, hA, hold, hlk, htr0⟩ := G
  intro H locs cells slots ls hP hI hN hS hc hs hl
  exact lv_i2l hx hb hd rfl (h H locs cells slots ls hP hI hN hS hc hs hl)
theorem z_l2i {Y : zC} {E0 : zE} {cc : ByteArray} {nL0 : Nat} {own : String} {R0 : Room} (G : zG Y E0 cc nL0 own R0) {w : zM} {c0 s0 pc : Nat} {lv : List (Option Value)} {st : List Value} {x : Int64} (hd : decode cc pc = .ok (.l2i, 1)) (h : Z Y w c0 s0 (pc + 1) lv (.int x.toInt32 :: st)) : Z Y w c0 s0 pc lv (.long x :: st) := by
  obtain ⟨E, A, nL, p, l, e, R, s, m, args, below, meth, c, Q⟩ := Y
  obtain ⟨rfl, rfl, rfl, hok, hwarm, hx, hb, hml, hown, hts, hA, hold, hlk, htr0⟩ := G
  intro H locs cells slots ls hP hI hN hS hc hs hl
  exact lv_l2i hx hb hd rfl (h H locs cells slots ls hP hI hN hS hc hs hl)
theorem z_i2b {Y : zC} {E0 : zE} {cc : ByteArray} {nL0 : Nat} {own : String} {R0 : Room} (G : zG Y E0 cc nL0 own R0) {w : zM} {c0 s0 pc : Nat} {lv : List (Option Value)} {st : List Value} {x : Int32} (hd : decode cc pc = .ok (.i2b, 1)) (h : Z Y w c0 s0 (pc + 1) lv (.int x.toInt8.toInt32 :: st)) : Z Y w c0 s0 pc lv (.int x :: st) := by
  obtain ⟨E, A, nL, p, l, e, R, s, m, args, below, meth, c, Q⟩ := Y
  obtain ⟨rfl, rfl, rfl, hok, hwarm, hx, hb, hml, hown, hts, hA, hold, hlk, htr0⟩ := G
  intro H locs cells slots ls hP hI hN hS hc hs hl
  exact lv_i2b hx hb hd rfl (h H locs cells slots ls hP hI hN hS hc hs hl)
theorem z_iushr {Y : zC} {E0 : zE} {cc : ByteArray} {nL0 : Nat} {own : String} {R0 : Room} (G : zG Y E0 cc nL0 own R0) {w : zM} {c0 s0 pc : Nat} {lv : List (Option Value)} {st : List Value} {x y : Int32} (hd : decode cc pc = .ok (.iushr, 1)) (h : Z Y w c0 s0 (pc + 1) lv (.int (x.toUInt32 >>> (y.toUInt32 &&& Int32.toUInt32 31)).toInt32 :: st)) : Z Y w c0 s0 pc lv (.int y :: .int x :: st) := by
  obtain ⟨E, A, nL, p, l, e, R, s, m, args, below, meth, c, Q⟩ := Y
  obtain ⟨rfl, rfl, rfl, hok, hwarm, hx, hb, hml, hown, hts, hA, hold, hlk, htr0⟩ := G
  intro H locs cells slots ls hP hI hN hS hc hs hl
  exact lv_iushr hx hb hd rfl (h H locs cells slots ls hP hI hN hS hc hs hl)
theorem z_lushr {Y : zC} {E0 : zE} {cc : ByteArray} {nL0 : Nat} {own : String} {R0 : Room} (G : zG Y E0 cc nL0 own R0) {w : zM} {c0 s0 pc : Nat} {lv : List (Option Value)} {st : List Value} {x : Int64} {y : Int32} (hd : decode cc pc = .ok (.lushr, 1)) (h : Z Y w c0 s0 (pc + 1) lv (.long (x.toUInt64 >>> (y.toInt64.toUInt64 &&& Int64.toUInt64 63)).toInt64 :: st)) : Z Y w c0 s0 pc lv (.int y :: .long x :: st) := by
  obtain ⟨E, A, nL, p, l, e, R, s, m, args, below, meth, c, Q⟩ := Y
  obtain ⟨rfl, rfl, rfl, hok, hwarm, hx, hb, hml, hown, hts, hA, hold, hlk, htr0⟩ := G
  intro H locs cells slots ls hP hI hN hS hc hs hl
  exact lv_lushr hx hb hd rfl (h H locs cells slots ls hP hI hN hS hc hs hl)
theorem z_lshl {Y : zC} {E0 : zE} {cc : ByteArray} {nL0 : Nat} {own : String} {R0 : Room} (G : zG Y E0 cc nL0 own R0) {w : zM} {c0 s0 pc : Nat} {lv : List (Option Value)} {st : List Value} {x : Int64} {y : Int32} (hd : decode cc pc = .ok (.lshl, 1)) (h : Z Y w c0 s0 (pc + 1) lv (.long (x <<< (y.toInt64 &&& 63)) :: st)) : Z Y w c0 s0 pc lv (.int y :: .long x :: st) := by
  obtain ⟨E, A, nL, p, l, e, R, s, m, args, below, meth, c, Q⟩ := Y
  obtain ⟨rfl, rfl, rfl, hok, hwarm, hx, hb, hml, hown, hts, hA, hold, hlk, htr0⟩ := G
  intro H locs cells slots ls hP hI hN hS hc hs hl
  exact lv_lshl hx hb hd rfl (h H locs cells slots ls hP hI hN hS hc hs hl)
theorem z_lcmp {Y : zC} {E0 : zE} {cc : ByteArray} {nL0 : Nat} {own : String} {R0 : Room} (G : zG Y E0 cc nL0 own R0) {w : zM} {c0 s0 pc : Nat} {lv : List (Option Value)} {st : List Value} {x y : Int64} (hd : decode cc pc = .ok (.lcmp, 1)) (h : Z Y w c0 s0 (pc + 1) lv (.int (lg_cmp x y) :: st)) : Z Y w c0 s0 pc lv (.long y :: .long x :: st) := by
  obtain ⟨E, A, nL, p, l, e, R, s, m, args, below, meth, c, Q⟩ := Y
  obtain ⟨rfl, rfl, rfl, hok, hwarm, hx, hb, hml, hown, hts, hA, hold, hlk, htr0⟩ := G
  intro H locs cells slots ls hP hI hN hS hc hs hl
  exact W.lcmp hx hb hd (h H locs cells slots ls hP hI hN hS hc hs hl)
theorem z_dup {Y : zC} {E0 : zE} {cc : ByteArray} {nL0 : Nat} {own : String} {R0 : Room} (G : zG Y E0 cc nL0 own R0) {w : zM} {c0 s0 pc : Nat} {lv : List (Option Value)} {st : List Value} {v : Value} (hv : v.category = 1) (hd : decode cc pc = .ok (.dup, 1)) (h : Z Y w c0 s0 (pc + 1) lv (v :: v :: st)) : Z Y w c0 s0 pc lv (v :: st) := by
  obtain ⟨E, A, nL, p, l, e, R, s, m, args, below, meth, c, Q⟩ := Y
  obtain ⟨rfl, rfl, rfl, hok, hwarm, hx, hb, hml, hown, hts, hA, hold, hlk, htr0⟩ := G
  intro H locs cells slots ls hP hI hN hS hc hs hl
  exact lv_dup hx hb hd hv (h H locs cells slots ls hP hI hN hS hc hs hl)
theorem z_pop {Y : zC} {E0 : zE} {cc : ByteArray} {nL0 : Nat} {own : String} {R0 : Room} (G : zG Y E0 cc nL0 own R0) {w : zM} {c0 s0 pc : Nat} {lv : List (Option Value)} {st : List Value} {v : Value} (hv : v.category = 1) (hd : decode cc pc = .ok (.pop, 1)) (h : Z Y w c0 s0 (pc + 1) lv (st)) : Z Y w c0 s0 pc lv (v :: st) := by
  obtain ⟨E, A, nL, p, l, e, R, s, m, args, below, meth, c, Q⟩ := Y
  obtain ⟨rfl, rfl, rfl, hok, hwarm, hx, hb, hml, hown, hts, hA, hold, hlk, htr0⟩ := G
  intro H locs cells slots ls hP hI hN hS hc hs hl
  exact lv_pop hx hb hd hv (h H locs cells slots ls hP hI hN hS hc hs hl)
theorem z_dup2 {Y : zC} {E0 : zE} {cc : ByteArray} {nL0 : Nat} {own : String} {R0 : Room} (G : zG Y E0 cc nL0 own R0) {w : zM} {c0 s0 pc : Nat} {lv : List (Option Value)} {st : List Value} {v u : Value} (hv : v.category = 1) (hu : u.category = 1) (hd : decode cc pc = .ok (.dup2, 1)) (h : Z Y w c0 s0 (pc + 1) lv (v :: u :: v :: u :: st)) : Z Y w c0 s0 pc lv (v :: u :: st) := by
  obtain ⟨E, A, nL, p, l, e, R, s, m, args, below, meth, c, Q⟩ := Y
  obtain ⟨rfl, rfl, rfl, hok, hwarm, hx, hb, hml, hown, hts, hA, hold, hlk, htr0⟩ := G
  intro H locs cells slots ls hP hI hN hS hc hs hl
  exact lv_dup2_11 hx hb hd hv hu (h H locs cells slots ls hP hI hN hS hc hs hl)
theorem z_dup2L {Y : zC} {E0 : zE} {cc : ByteArray} {nL0 : Nat} {own : String} {R0 : Room} (G : zG Y E0 cc nL0 own R0) {w : zM} {c0 s0 pc : Nat} {lv : List (Option Value)} {st : List Value} {v : Value} (hv : v.category = 2) (hd : decode cc pc = .ok (.dup2, 1)) (h : Z Y w c0 s0 (pc + 1) lv (v :: v :: st)) : Z Y w c0 s0 pc lv (v :: st) := by
  obtain ⟨E, A, nL, p, l, e, R, s, m, args, below, meth, c, Q⟩ := Y
  obtain ⟨rfl, rfl, rfl, hok, hwarm, hx, hb, hml, hown, hts, hA, hold, hlk, htr0⟩ := G
  intro H locs cells slots ls hP hI hN hS hc hs hl
  exact lv_dup2_2 hx hb hd hv (h H locs cells slots ls hP hI hN hS hc hs hl)
theorem z_null {Y : zC} {E0 : zE} {cc : ByteArray} {nL0 : Nat} {own : String} {R0 : Room} (G : zG Y E0 cc nL0 own R0) {w : zM} {c0 s0 pc : Nat} {lv : List (Option Value)} {st : List Value}  (hd : decode cc pc = .ok (.aconst_null, 1)) (h : Z Y w c0 s0 (pc + 1) lv (.null :: st)) : Z Y w c0 s0 pc lv (st) := by
  obtain ⟨E, A, nL, p, l, e, R, s, m, args, below, meth, c, Q⟩ := Y
  obtain ⟨rfl, rfl, rfl, hok, hwarm, hx, hb, hml, hown, hts, hA, hold, hlk, htr0⟩ := G
  intro H locs cells slots ls hP hI hN hS hc hs hl
  exact lv_null hx hb hd (h H locs cells slots ls hP hI hN hS hc hs hl)
theorem z_ldc {Y : zC} {E0 : zE} {cc : ByteArray} {nL0 : Nat} {own : String} {R0 : Room} (G : zG Y E0 cc nL0 own R0) {w : zM} {c0 s0 pc : Nat} {lv : List (Option Value)} {st : List Value} {index : Nat} {v : Int32} (hq : Jvm.Cond.constant own index v ∈ lw_all) (hd : decode cc pc = .ok (.ldc index, 2)) (h : Z Y w c0 s0 (pc + 2) lv (.int v :: st)) : Z Y w c0 s0 pc lv (st) := by
  obtain ⟨E, A, nL, p, l, e, R, s, m, args, below, meth, c, Q⟩ := Y
  obtain ⟨rfl, rfl, rfl, hok, hwarm, hx, hb, hml, hown, hts, hA, hold, hlk, htr0⟩ := G
  intro H locs cells slots ls hP hI hN hS hc hs hl
  exact lv_ldc hx hb hown (hts _ hq) hd (h H locs cells slots ls hP hI hN hS hc hs hl)
theorem z_ldcw {Y : zC} {E0 : zE} {cc : ByteArray} {nL0 : Nat} {own : String} {R0 : Room} (G : zG Y E0 cc nL0 own R0) {w : zM} {c0 s0 pc : Nat} {lv : List (Option Value)} {st : List Value} {index : Nat} {v : Int32} (hq : Jvm.Cond.constant own index v ∈ lw_all) (hd : decode cc pc = .ok (.ldc_w index, 3)) (h : Z Y w c0 s0 (pc + 3) lv (.int v :: st)) : Z Y w c0 s0 pc lv (st) := by
  obtain ⟨E, A, nL, p, l, e, R, s, m, args, below, meth, c, Q⟩ := Y
  obtain ⟨rfl, rfl, rfl, hok, hwarm, hx, hb, hml, hown, hts, hA, hold, hlk, htr0⟩ := G
  intro H locs cells slots ls hP hI hN hS hc hs hl
  exact lv_ldcw hx hb hown (hts _ hq) hd (h H locs cells slots ls hP hI hN hS hc hs hl)
theorem z_ldc2 {Y : zC} {E0 : zE} {cc : ByteArray} {nL0 : Nat} {own : String} {R0 : Room} (G : zG Y E0 cc nL0 own R0) {w : zM} {c0 s0 pc : Nat} {lv : List (Option Value)} {st : List Value} {index : Nat} {v : Int64} (hq : Jvm.Cond.constantLong own index v ∈ lw_all) (hd : decode cc pc = .ok (.ldc2_w index, 3)) (h : Z Y w c0 s0 (pc + 3) lv (.long v :: st)) : Z Y w c0 s0 pc lv (st) := by
  obtain ⟨E, A, nL, p, l, e, R, s, m, args, below, meth, c, Q⟩ := Y
  obtain ⟨rfl, rfl, rfl, hok, hwarm, hx, hb, hml, hown, hts, hA, hold, hlk, htr0⟩ := G
  intro H locs cells slots ls hP hI hN hS hc hs hl
  exact lv_ldc2 hx hb hown (hts _ hq) hd (h H locs cells slots ls hP hI hN hS hc hs hl)
theorem z_iload_n {Y : zC} {E0 : zE} {cc : ByteArray} {nL0 : Nat} {own : String} {R0 : Room} (G : zG Y E0 cc nL0 own R0) {w : zM} {c0 s0 pc : Nat} {lv : List (Option Value)} {st : List Value} {k : Fin 4} {x : Int32} (hi : lv[(k : Nat)]? = some (some (.int x))) (hd : decode cc pc = .ok (.iload_n k, 1)) (h : Z Y w c0 s0 (pc + 1) lv (.int x :: st)) : Z Y w c0 s0 pc lv (st) := by
  obtain ⟨E, A, nL, p, l, e, R, s, m, args, below, meth, c, Q⟩ := Y
  obtain ⟨rfl, rfl, rfl, hok, hwarm, hx, hb, hml, hown, hts, hA, hold, hlk, htr0⟩ := G
  intro H locs cells slots ls hP hI hN hS hc hs hl
  exact lv_iload_n hx hb hd rfl (zl_get hl hi) (h H locs cells slots ls hP hI hN hS hc hs hl)
theorem z_iload {Y : zC} {E0 : zE} {cc : ByteArray} {nL0 : Nat} {own : String} {R0 : Room} (G : zG Y E0 cc nL0 own R0) {w : zM} {c0 s0 pc : Nat} {lv : List (Option Value)} {st : List Value} {i : Nat} {x : Int32} (hi : lv[i]? = some (some (.int x))) (hd : decode cc pc = .ok (.iload i, 2)) (h : Z Y w c0 s0 (pc + 2) lv (.int x :: st)) : Z Y w c0 s0 pc lv (st) := by
  obtain ⟨E, A, nL, p, l, e, R, s, m, args, below, meth, c, Q⟩ := Y
  obtain ⟨rfl, rfl, rfl, hok, hwarm, hx, hb, hml, hown, hts, hA, hold, hlk, htr0⟩ := G
  intro H locs cells slots ls hP hI hN hS hc hs hl
  exact lv_iload hx hb hd (zl_get hl hi) (h H locs cells slots ls hP hI hN hS hc hs hl)
theorem z_lload_n {Y : zC} {E0 : zE} {cc : ByteArray} {nL0 : Nat} {own : String} {R0 : Room} (G : zG Y E0 cc nL0 own R0) {w : zM} {c0 s0 pc : Nat} {lv : List (Option Value)} {st : List Value} {k : Fin 4} {x : Int64} (hi : lv[(k : Nat)]? = some (some (.long x))) (hd : decode cc pc = .ok (.lload_n k, 1)) (h : Z Y w c0 s0 (pc + 1) lv (.long x :: st)) : Z Y w c0 s0 pc lv (st) := by
  obtain ⟨E, A, nL, p, l, e, R, s, m, args, below, meth, c, Q⟩ := Y
  obtain ⟨rfl, rfl, rfl, hok, hwarm, hx, hb, hml, hown, hts, hA, hold, hlk, htr0⟩ := G
  intro H locs cells slots ls hP hI hN hS hc hs hl
  exact lv_lload_n hx hb hd rfl (zl_get hl hi) (h H locs cells slots ls hP hI hN hS hc hs hl)
theorem z_lload {Y : zC} {E0 : zE} {cc : ByteArray} {nL0 : Nat} {own : String} {R0 : Room} (G : zG Y E0 cc nL0 own R0) {w : zM} {c0 s0 pc : Nat} {lv : List (Option Value)} {st : List Value} {i : Nat} {x : Int64} (hi : lv[i]? = some (some (.long x))) (hd : decode cc pc = .ok (.lload i, 2)) (h : Z Y w c0 s0 (pc + 2) lv (.long x :: st)) : Z Y w c0 s0 pc lv (st) := by
  obtain ⟨E, A, nL, p, l, e, R, s, m, args, below, meth, c, Q⟩ := Y
  obtain ⟨rfl, rfl, rfl, hok, hwarm, hx, hb, hml, hown, hts, hA, hold, hlk, htr0⟩ := G
  intro H locs cells slots ls hP hI hN hS hc hs hl
  exact lv_lload hx hb hd (zl_get hl hi) (h H locs cells slots ls hP hI hN hS hc hs hl)
theorem z_aload_n {Y : zC} {E0 : zE} {cc : ByteArray} {nL0 : Nat} {own : String} {R0 : Room} (G : zG Y E0 cc nL0 own R0) {w : zM} {c0 s0 pc : Nat} {lv : List (Option Value)} {st : List Value} {k : Fin 4} {x : Nat} (hi : lv[(k : Nat)]? = some (some (.ref x))) (hd : decode cc pc = .ok (.aload_n k, 1)) (h : Z Y w c0 s0 (pc + 1) lv (.ref x :: st)) : Z Y w c0 s0 pc lv st := by
  obtain ⟨E, A, nL, p, l, e, R, s, m, args, below, meth, c, Q⟩ := Y
  obtain ⟨rfl, rfl, rfl, hok, hwarm, hx, hb, hml, hown, hts, hA, hold, hlk, htr0⟩ := G
  intro H locs cells slots ls hP hI hN hS hc hs hl
  exact lv_aload_n hx hb hd rfl (zl_get hl hi) (h H locs cells slots ls hP hI hN hS hc hs hl)
theorem z_aload_nQ {Y : zC} {E0 : zE} {cc : ByteArray} {nL0 : Nat} {own : String} {R0 : Room} (G : zG Y E0 cc nL0 own R0) {w : zM} {c0 s0 pc : Nat} {lv : List (Option Value)} {st : List Value} {k : Fin 4} {o : Option Nat} (hi : lv[(k : Nat)]? = some (some (va_rf o))) (hd : decode cc pc = .ok (.aload_n k, 1)) (h : Z Y w c0 s0 (pc + 1) lv (va_rf o :: st)) : Z Y w c0 s0 pc lv st := by
  obtain ⟨E, A, nL, p, l, e, R, s, m, args, below, meth, c, Q⟩ := Y
  obtain ⟨rfl, rfl, rfl, hok, hwarm, hx, hb, hml, hown, hts, hA, hold, hlk, htr0⟩ := G
  intro H locs cells slots ls hP hI hN hS hc hs hl
  cases o with
  | none => exact lv_aload_nN hx hb hd rfl (zl_get hl hi) (h H locs cells slots ls hP hI hN hS hc hs hl)
  | some x => exact lv_aload_n hx hb hd rfl (zl_get hl hi) (h H locs cells slots ls hP hI hN hS hc hs hl)
theorem z_aload {Y : zC} {E0 : zE} {cc : ByteArray} {nL0 : Nat} {own : String} {R0 : Room} (G : zG Y E0 cc nL0 own R0) {w : zM} {c0 s0 pc : Nat} {lv : List (Option Value)} {st : List Value} {i : Nat} {x : Nat} (hi : lv[i]? = some (some (.ref x))) (hd : decode cc pc = .ok (.aload i, 2)) (h : Z Y w c0 s0 (pc + 2) lv (.ref x :: st)) : Z Y w c0 s0 pc lv st := by
  obtain ⟨E, A, nL, p, l, e, R, s, m, args, below, meth, c, Q⟩ := Y
  obtain ⟨rfl, rfl, rfl, hok, hwarm, hx, hb, hml, hown, hts, hA, hold, hlk, htr0⟩ := G
  intro H locs cells slots ls hP hI hN hS hc hs hl
  exact lv_aload hx hb hd (zl_get hl hi) (h H locs cells slots ls hP hI hN hS hc hs hl)
theorem z_aloadQ {Y : zC} {E0 : zE} {cc : ByteArray} {nL0 : Nat} {own : String} {R0 : Room} (G : zG Y E0 cc nL0 own R0) {w : zM} {c0 s0 pc : Nat} {lv : List (Option Value)} {st : List Value} {i : Nat} {o : Option Nat} (hi : lv[i]? = some (some (va_rf o))) (hd : decode cc pc = .ok (.aload i, 2)) (h : Z Y w c0 s0 (pc + 2) lv (va_rf o :: st)) : Z Y w c0 s0 pc lv st := by
  obtain ⟨E, A, nL, p, l, e, R, s, m, args, below, meth, c, Q⟩ := Y
  obtain ⟨rfl, rfl, rfl, hok, hwarm, hx, hb, hml, hown, hts, hA, hold, hlk, htr0⟩ := G
  intro H locs cells slots ls hP hI hN hS hc hs hl
  cases o with
  | none => exact lv_aloadN hx hb hd (zl_get hl hi) (h H locs cells slots ls hP hI hN hS hc hs hl)
  | some x => exact lv_aload hx hb hd (zl_get hl hi) (h H locs cells slots ls hP hI hN hS hc hs hl)
theorem z_istore {Y : zC} {E0 : zE} {cc : ByteArray} {nL0 : Nat} {own : String} {R0 : Room} (G : zG Y E0 cc nL0 own R0) {w : zM} {c0 s0 pc : Nat} {lv : List (Option Value)} {st : List Value} {x : Int32} {i : Nat} {lv' : List (Option Value)} (hd : decode cc pc = .ok (.istore i, 2)) (hi : i < nL0) (hv : zst lv i (.int x) = lv') (h : Z Y w c0 s0 (pc + 2) lv' st) : Z Y w c0 s0 pc lv (.int x :: st) := by
  subst hv
  obtain ⟨E, A, nL, p, l, e, R, s, m, args, below, meth, c, Q⟩ := Y
  obtain ⟨rfl, rfl, rfl, hok, hwarm, hx, hb, hml, hown, hts, hA, hold, hlk, htr0⟩ := G
  intro H locs cells slots ls hP hI hN hS hc hs hl
  exact lv_istore hx hb hd hl hi rfl (fun ls' hl' => h H locs cells slots ls' hP hI hN hS hc hs (zl_less hl' zst_sub))
theorem z_istore_n {Y : zC} {E0 : zE} {cc : ByteArray} {nL0 : Nat} {own : String} {R0 : Room} (G : zG Y E0 cc nL0 own R0) {w : zM} {c0 s0 pc : Nat} {lv : List (Option Value)} {st : List Value} {x : Int32} {k : Fin 4} {lv' : List (Option Value)} (hd : decode cc pc = .ok (.istore_n k, 1)) (hi : (k : Nat) < nL0) (hv : zst lv (k : Nat) (.int x) = lv') (h : Z Y w c0 s0 (pc + 1) lv' st) : Z Y w c0 s0 pc lv (.int x :: st) := by
  subst hv
  obtain ⟨E, A, nL, p, l, e, R, s, m, args, below, meth, c, Q⟩ := Y
  obtain ⟨rfl, rfl, rfl, hok, hwarm, hx, hb, hml, hown, hts, hA, hold, hlk, htr0⟩ := G
  intro H locs cells slots ls hP hI hN hS hc hs hl
  exact lv_istore_n hx hb hd rfl hl hi rfl (fun ls' hl' => h H locs cells slots ls' hP hI hN hS hc hs (zl_less hl' zst_sub))
theorem z_lstore {Y : zC} {E0 : zE} {cc : ByteArray} {nL0 : Nat} {own : String} {R0 : Room} (G : zG Y E0 cc nL0 own R0) {w : zM} {c0 s0 pc : Nat} {lv : List (Option Value)} {st : List Value} {x : Int64} {i : Nat} {lv' : List (Option Value)} (hd : decode cc pc = .ok (.lstore i, 2)) (hi : i + 1 < nL0) (hv : zst2 lv i (.long x) = lv') (h : Z Y w c0 s0 (pc + 2) lv' st) : Z Y w c0 s0 pc lv (.long x :: st) := by
  subst hv
  obtain ⟨E, A, nL, p, l, e, R, s, m, args, below, meth, c, Q⟩ := Y
  obtain ⟨rfl, rfl, rfl, hok, hwarm, hx, hb, hml, hown, hts, hA, hold, hlk, htr0⟩ := G
  intro H locs cells slots ls hP hI hN hS hc hs hl
  exact lv_lstore hx hb hd hl hi rfl (fun ls' hl' => h H locs cells slots ls' hP hI hN hS hc hs (zl_less hl' zst2_sub))
theorem z_lstore_n {Y : zC} {E0 : zE} {cc : ByteArray} {nL0 : Nat} {own : String} {R0 : Room} (G : zG Y E0 cc nL0 own R0) {w : zM} {c0 s0 pc : Nat} {lv : List (Option Value)} {st : List Value} {x : Int64} {k : Fin 4} {lv' : List (Option Value)} (hd : decode cc pc = .ok (.lstore_n k, 1)) (hi : (k : Nat) + 1 < nL0) (hv : zst2 lv (k : Nat) (.long x) = lv') (h : Z Y w c0 s0 (pc + 1) lv' st) : Z Y w c0 s0 pc lv (.long x :: st) := by
  subst hv
  obtain ⟨E, A, nL, p, l, e, R, s, m, args, below, meth, c, Q⟩ := Y
  obtain ⟨rfl, rfl, rfl, hok, hwarm, hx, hb, hml, hown, hts, hA, hold, hlk, htr0⟩ := G
  intro H locs cells slots ls hP hI hN hS hc hs hl
  exact lv_lstore_n hx hb hd rfl hl hi rfl (fun ls' hl' => h H locs cells slots ls' hP hI hN hS hc hs (zl_less hl' zst2_sub))
theorem z_astore_n {Y : zC} {E0 : zE} {cc : ByteArray} {nL0 : Nat} {own : String} {R0 : Room} (G : zG Y E0 cc nL0 own R0) {w : zM} {c0 s0 pc : Nat} {lv : List (Option Value)} {st : List Value} {k : Fin 4} {x : Nat} {lv' : List (Option Value)} (hd : decode cc pc = .ok (.astore_n k, 1)) (hi : (k : Nat) < nL0) (hv : zst lv (k : Nat) (.ref x) = lv') (h : Z Y w c0 s0 (pc + 1) lv' st) : Z Y w c0 s0 pc lv (.ref x :: st) := by
  subst hv
  obtain ⟨E, A, nL, p, l, e, R, s, m, args, below, meth, c, Q⟩ := Y
  obtain ⟨rfl, rfl, rfl, hok, hwarm, hx, hb, hml, hown, hts, hA, hold, hlk, htr0⟩ := G
  intro H locs cells slots ls hP hI hN hS hc hs hl
  exact lv_astore_n hx hb hd rfl hl hi rfl (fun ls' hl' => h H locs cells slots ls' hP hI hN hS hc hs (zl_less hl' zst_sub))
theorem z_astore_nQ {Y : zC} {E0 : zE} {cc : ByteArray} {nL0 : Nat} {own : String} {R0 : Room} (G : zG Y E0 cc nL0 own R0) {w : zM} {c0 s0 pc : Nat} {lv : List (Option Value)} {st : List Value} {k : Fin 4} {o : Option Nat} {lv' : List (Option Value)} (hd : decode cc pc = .ok (.astore_n k, 1)) (hi : (k : Nat) < nL0) (hv : zst lv (k : Nat) (va_rf o) = lv') (h : Z Y w c0 s0 (pc + 1) lv' st) : Z Y w c0 s0 pc lv (va_rf o :: st) := by
  subst hv
  obtain ⟨E, A, nL, p, l, e, R, s, m, args, below, meth, c, Q⟩ := Y
  obtain ⟨rfl, rfl, rfl, hok, hwarm, hx, hb, hml, hown, hts, hA, hold, hlk, htr0⟩ := G
  intro H locs cells slots ls hP hI hN hS hc hs hl
  cases o with
  | none => exact lv_astore_nN hx hb hd rfl hl hi rfl (fun ls' hl' => h H locs cells slots ls' hP hI hN hS hc hs (zl_less hl' zst_sub))
  | some x => exact lv_astore_n hx hb hd rfl hl hi rfl (fun ls' hl' => h H locs cells slots ls' hP hI hN hS hc hs (zl_less hl' zst_sub))
theorem z_astore {Y : zC} {E0 : zE} {cc : ByteArray} {nL0 : Nat} {own : String} {R0 : Room} (G : zG Y E0 cc nL0 own R0) {w : zM} {c0 s0 pc : Nat} {lv : List (Option Value)} {st : List Value} {i : Nat} {x : Nat} {lv' : List (Option Value)} (hd : decode cc pc = .ok (.astore i, 2)) (hi : i < nL0) (hv : zst lv i (.ref x) = lv') (h : Z Y w c0 s0 (pc + 2) lv' st) : Z Y w c0 s0 pc lv (.ref x :: st) := by
  subst hv
  obtain ⟨E, A, nL, p, l, e, R, s, m, args, below, meth, c, Q⟩ := Y
  obtain ⟨rfl, rfl, rfl, hok, hwarm, hx, hb, hml, hown, hts, hA, hold, hlk, htr0⟩ := G
  intro H locs cells slots ls hP hI hN hS hc hs hl
  exact lv_astore hx hb hd hl hi rfl (fun ls' hl' => h H locs cells slots ls' hP hI hN hS hc hs (zl_less hl' zst_sub))
theorem z_astoreQ {Y : zC} {E0 : zE} {cc : ByteArray} {nL0 : Nat} {own : String} {R0 : Room} (G : zG Y E0 cc nL0 own R0) {w : zM} {c0 s0 pc : Nat} {lv : List (Option Value)} {st : List Value} {i : Nat} {o : Option Nat} {lv' : List (Option Value)} (hd : decode cc pc = .ok (.astore i, 2)) (hi : i < nL0) (hv : zst lv i (va_rf o) = lv') (h : Z Y w c0 s0 (pc + 2) lv' st) : Z Y w c0 s0 pc lv (va_rf o :: st) := by
  subst hv
  obtain ⟨E, A, nL, p, l, e, R, s, m, args, below, meth, c, Q⟩ := Y
  obtain ⟨rfl, rfl, rfl, hok, hwarm, hx, hb, hml, hown, hts, hA, hold, hlk, htr0⟩ := G
  intro H locs cells slots ls hP hI hN hS hc hs hl
  cases o with
  | none => exact lv_astoreN hx hb hd hl hi rfl (fun ls' hl' => h H locs cells slots ls' hP hI hN hS hc hs (zl_less hl' zst_sub))
  | some x => exact lv_astore hx hb hd hl hi rfl (fun ls' hl' => h H locs cells slots ls' hP hI hN hS hc hs (zl_less hl' zst_sub))
theorem z_iinc {Y : zC} {E0 : zE} {cc : ByteArray} {nL0 : Nat} {own : String} {R0 : Room} (G : zG Y E0 cc nL0 own R0) {w : zM} {c0 s0 pc : Nat} {lv : List (Option Value)} {st : List Value} {i : Nat} {n : Int} {x v : Int32} {lv' : List (Option Value)} (hd : decode cc pc = .ok (.iinc i n, 3)) (hi : i < nL0) (hx0 : lv[i]? = some (some (.int x))) (hv : x + Int32.ofInt n = v) (hw : zst lv i (.int v) = lv') (h : Z Y w c0 s0 (pc + 3) lv' st) : Z Y w c0 s0 pc lv st := by
  subst hw
  obtain ⟨E, A, nL, p, l, e, R, s, m, args, below, meth, c, Q⟩ := Y
  obtain ⟨rfl, rfl, rfl, hok, hwarm, hx, hb, hml, hown, hts, hA, hold, hlk, htr0⟩ := G
  intro H locs cells slots ls hP hI hN hS hc hs hl
  obtain ⟨k, hk⟩ := List.getElem?_of_mem (show (i, Value.int x) ∈ zl 0 lv by simpa using zl_at lv 0 i _ hx0)
  exact lv_iinc hx hb hd hl hk hv hi rfl (fun ls' hl' => h H locs cells slots ls' hP hI hN hS hc hs (zl_less hl' zst_sub))
/-- names for what is computed -/
theorem z_topi {Y : zC} {w : zM} {c0 s0 pc : Nat} {lv : List (Option Value)} {st : List Value} {x : Int32} (h : ∀ y : Int32, y = x → Z Y w c0 s0 pc lv (.int y :: st)) : Z Y w c0 s0 pc lv (.int x :: st) := h x rfl
theorem z_topl {Y : zC} {w : zM} {c0 s0 pc : Nat} {lv : List (Option Value)} {st : List Value} {x : Int64} (h : ∀ y : Int64, y = x → Z Y w c0 s0 pc lv (.long y :: st)) : Z Y w c0 s0 pc lv (.long x :: st) := h x rfl
theorem z_less {Y : zC} {w : zM} {c0 s0 pc : Nat} {lv lv' : List (Option Value)} {st : List Value} (h : Z Y w c0 s0 pc lv' st) (hs : zsub lv lv') : Z Y w c0 s0 pc lv st := by
  obtain ⟨E, A, nL, p, l, e, R, s, m, args, below, meth, c, Q⟩ := Y
  intro H locs cells slots ls hP hI hN hS hc hs' hl
  exact h H locs cells slots ls hP hI hN hS hc hs' (zl_sub hl hs)
theorem z_more {Y : zC} {w : zM} {c0 s0 c1 s1 pc : Nat} {lv : List (Option Value)} {st : List Value} (h : Z Y w c1 s1 pc lv st) (h1 : c0 ≤ c1) (h2 : s0 ≤ s1) : Z Y w c0 s0 pc lv st := by
  obtain ⟨E, A, nL, p, l, e, R, s, m, args, below, meth, c, Q⟩ := Y
  intro H locs cells slots ls hP hI hN hS hc hs' hl
  exact h H locs cells slots ls hP hI hN hS (Nat.le_trans hc h1) (Nat.le_trans hs' h2) hl
theorem zlt_of {x y : Int32} (h : ¬ y ≤ x) : x < y := Int32.not_le.mp h
theorem znlt_of {x y : Int32} (h : y ≤ x) : ¬ x < y := Int32.not_lt.mpr h
theorem z_icmp_eq {Y : zC} {E0 : zE} {cc : ByteArray} {nL0 : Nat} {own : String} {R0 : Room} (G : zG Y E0 cc nL0 own R0) {w : zM} {c0 s0 pc : Nat} {lv : List (Option Value)} {st : List Value} {x y : Int32} {off : Int} {tgt : Nat} (hd : decode cc pc = .ok (.if_icmp .eq off, 3)) (ht : (pc : Int) + off = (tgt : Int)) (ht9 : x = y → Z Y w c0 s0 tgt lv st) (hf9 : ¬ x = y → Z Y w c0 s0 (pc + 3) lv st) : Z Y w c0 s0 pc lv (.int y :: .int x :: st) := by
  obtain ⟨E, A, nL, p, l, e, R, s, m, args, below, meth, c, Q⟩ := Y
  obtain ⟨rfl, rfl, rfl, hok, hwarm, hx, hb, hml, hown, hts, hA, hold, hlk, htr0⟩ := G
  intro H locs cells slots ls hP hI hN hS hc hs hl
  exact lv_icmp_eq hx hb hd ht (fun q => ht9 q H locs cells slots ls hP hI hN hS hc hs hl) (fun q => hf9 q H locs cells slots ls hP hI hN hS hc hs hl)
theorem z_icmp_ne {Y : zC} {E0 : zE} {cc : ByteArray} {nL0 : Nat} {own : String} {R0 : Room} (G : zG Y E0 cc nL0 own R0) {w : zM} {c0 s0 pc : Nat} {lv : List (Option Value)} {st : List Value} {x y : Int32} {off : Int} {tgt : Nat} (hd : decode cc pc = .ok (.if_icmp .ne off, 3)) (ht : (pc : Int) + off = (tgt : Int)) (ht9 : x = y → Z Y w c0 s0 (pc + 3) lv st) (hf9 : ¬ x = y → Z Y w c0 s0 tgt lv st) : Z Y w c0 s0 pc lv (.int y :: .int x :: st) := by
  obtain ⟨E, A, nL, p, l, e, R, s, m, args, below, meth, c, Q⟩ := Y
  obtain ⟨rfl, rfl, rfl, hok, hwarm, hx, hb, hml, hown, hts, hA, hold, hlk, htr0⟩ := G
  intro H locs cells slots ls hP hI hN hS hc hs hl
  exact lv_icmp_ne hx hb hd ht (fun q => hf9 q H locs cells slots ls hP hI hN hS hc hs hl) (fun q => ht9 q H locs cells slots ls hP hI hN hS hc hs hl)
theorem z_icmp_lt {Y : zC} {E0 : zE} {cc : ByteArray} {nL0 : Nat} {own : String} {R0 : Room} (G : zG Y E0 cc nL0 own R0) {w : zM} {c0 s0 pc : Nat} {lv : List (Option Value)} {st : List Value} {x y : Int32} {off : Int} {tgt : Nat} (hd : decode cc pc = .ok (.if_icmp .lt off, 3)) (ht : (pc : Int) + off = (tgt : Int)) (ht9 : x < y → Z Y w c0 s0 tgt lv st) (hf9 : ¬ x < y → Z Y w c0 s0 (pc + 3) lv st) : Z Y w c0 s0 pc lv (.int y :: .int x :: st) := by
  obtain ⟨E, A, nL, p, l, e, R, s, m, args, below, meth, c, Q⟩ := Y
  obtain ⟨rfl, rfl, rfl, hok, hwarm, hx, hb, hml, hown, hts, hA, hold, hlk, htr0⟩ := G
  intro H locs cells slots ls hP hI hN hS hc hs hl
  exact lv_icmp_lt hx hb hd ht (fun q => ht9 q H locs cells slots ls hP hI hN hS hc hs hl) (fun q => hf9 q H locs cells slots ls hP hI hN hS hc hs hl)
theorem z_icmp_ge {Y : zC} {E0 : zE} {cc : ByteArray} {nL0 : Nat} {own : String} {R0 : Room} (G : zG Y E0 cc nL0 own R0) {w : zM} {c0 s0 pc : Nat} {lv : List (Option Value)} {st : List Value} {x y : Int32} {off : Int} {tgt : Nat} (hd : decode cc pc = .ok (.if_icmp .ge off, 3)) (ht : (pc : Int) + off = (tgt : Int)) (ht9 : x < y → Z Y w c0 s0 (pc + 3) lv st) (hf9 : ¬ x < y → Z Y w c0 s0 tgt lv st) : Z Y w c0 s0 pc lv (.int y :: .int x :: st) := by
  obtain ⟨E, A, nL, p, l, e, R, s, m, args, below, meth, c, Q⟩ := Y
  obtain ⟨rfl, rfl, rfl, hok, hwarm, hx, hb, hml, hown, hts, hA, hold, hlk, htr0⟩ := G
  intro H locs cells slots ls hP hI hN hS hc hs hl
  exact lv_icmp_ge hx hb hd ht (fun q => hf9 (znlt_of q) H locs cells slots ls hP hI hN hS hc hs hl) (fun q => ht9 (zlt_of q) H locs cells slots ls hP hI hN hS hc hs hl)
theorem z_icmp_gt {Y : zC} {E0 : zE} {cc : ByteArray} {nL0 : Nat} {own : String} {R0 : Room} (G : zG Y E0 cc nL0 own R0) {w : zM} {c0 s0 pc : Nat} {lv : List (Option Value)} {st : List Value} {x y : Int32} {off : Int} {tgt : Nat} (hd : decode cc pc = .ok (.if_icmp .gt off, 3)) (ht : (pc : Int) + off = (tgt : Int)) (ht9 : y < x → Z Y w c0 s0 tgt lv st) (hf9 : ¬ y < x → Z Y w c0 s0 (pc + 3) lv st) : Z Y w c0 s0 pc lv (.int y :: .int x :: st) := by
  obtain ⟨E, A, nL, p, l, e, R, s, m, args, below, meth, c, Q⟩ := Y
  obtain ⟨rfl, rfl, rfl, hok, hwarm, hx, hb, hml, hown, hts, hA, hold, hlk, htr0⟩ := G
  intro H locs cells slots ls hP hI hN hS hc hs hl
  exact lv_icmp_gt hx hb hd ht (fun q => ht9 q H locs cells slots ls hP hI hN hS hc hs hl) (fun q => hf9 q H locs cells slots ls hP hI hN hS hc hs hl)
theorem z_icmp_le {Y : zC} {E0 : zE} {cc : ByteArray} {nL0 : Nat} {own : String} {R0 : Room} (G : zG Y E0 cc nL0 own R0) {w : zM} {c0 s0 pc : Nat} {lv : List (Option Value)} {st : List Value} {x y : Int32} {off : Int} {tgt : Nat} (hd : decode cc pc = .ok (.if_icmp .le off, 3)) (ht : (pc : Int) + off = (tgt : Int)) (ht9 : y < x → Z Y w c0 s0 (pc + 3) lv st) (hf9 : ¬ y < x → Z Y w c0 s0 tgt lv st) : Z Y w c0 s0 pc lv (.int y :: .int x :: st) := by
  obtain ⟨E, A, nL, p, l, e, R, s, m, args, below, meth, c, Q⟩ := Y
  obtain ⟨rfl, rfl, rfl, hok, hwarm, hx, hb, hml, hown, hts, hA, hold, hlk, htr0⟩ := G
  intro H locs cells slots ls hP hI hN hS hc hs hl
  exact lv_icmp_le hx hb hd ht (fun q => hf9 (znlt_of q) H locs cells slots ls hP hI hN hS hc hs hl) (fun q => ht9 (zlt_of q) H locs cells slots ls hP hI hN hS hc hs hl)
theorem z_if_eq {Y : zC} {E0 : zE} {cc : ByteArray} {nL0 : Nat} {own : String} {R0 : Room} (G : zG Y E0 cc nL0 own R0) {w : zM} {c0 s0 pc : Nat} {lv : List (Option Value)} {st : List Value} {x : Int32} {off : Int} {tgt : Nat} (hd : decode cc pc = .ok (.ifCond .eq off, 3)) (ht : (pc : Int) + off = (tgt : Int)) (ht9 : x = 0 → Z Y w c0 s0 tgt lv st) (hf9 : ¬ x = 0 → Z Y w c0 s0 (pc + 3) lv st) : Z Y w c0 s0 pc lv (.int x :: st) := by
  obtain ⟨E, A, nL, p, l, e, R, s, m, args, below, meth, c, Q⟩ := Y
  obtain ⟨rfl, rfl, rfl, hok, hwarm, hx, hb, hml, hown, hts, hA, hold, hlk, htr0⟩ := G
  intro H locs cells slots ls hP hI hN hS hc hs hl
  exact lv_if_eq hx hb hd ht (fun q => ht9 q H locs cells slots ls hP hI hN hS hc hs hl) (fun q => hf9 q H locs cells slots ls hP hI hN hS hc hs hl)
theorem z_if_ne {Y : zC} {E0 : zE} {cc : ByteArray} {nL0 : Nat} {own : String} {R0 : Room} (G : zG Y E0 cc nL0 own R0) {w : zM} {c0 s0 pc : Nat} {lv : List (Option Value)} {st : List Value} {x : Int32} {off : Int} {tgt : Nat} (hd : decode cc pc = .ok (.ifCond .ne off, 3)) (ht : (pc : Int) + off = (tgt : Int)) (ht9 : x = 0 → Z Y w c0 s0 (pc + 3) lv st) (hf9 : ¬ x = 0 → Z Y w c0 s0 tgt lv st) : Z Y w c0 s0 pc lv (.int x :: st) := by
  obtain ⟨E, A, nL, p, l, e, R, s, m, args, below, meth, c, Q⟩ := Y
  obtain ⟨rfl, rfl, rfl, hok, hwarm, hx, hb, hml, hown, hts, hA, hold, hlk, htr0⟩ := G
  intro H locs cells slots ls hP hI hN hS hc hs hl
  exact lv_if_ne hx hb hd ht (fun q => hf9 q H locs cells slots ls hP hI hN hS hc hs hl) (fun q => ht9 q H locs cells slots ls hP hI hN hS hc hs hl)
theorem z_if_lt {Y : zC} {E0 : zE} {cc : ByteArray} {nL0 : Nat} {own : String} {R0 : Room} (G : zG Y E0 cc nL0 own R0) {w : zM} {c0 s0 pc : Nat} {lv : List (Option Value)} {st : List Value} {x : Int32} {off : Int} {tgt : Nat} (hd : decode cc pc = .ok (.ifCond .lt off, 3)) (ht : (pc : Int) + off = (tgt : Int)) (ht9 : x < 0 → Z Y w c0 s0 tgt lv st) (hf9 : ¬ x < 0 → Z Y w c0 s0 (pc + 3) lv st) : Z Y w c0 s0 pc lv (.int x :: st) := by
  obtain ⟨E, A, nL, p, l, e, R, s, m, args, below, meth, c, Q⟩ := Y
  obtain ⟨rfl, rfl, rfl, hok, hwarm, hx, hb, hml, hown, hts, hA, hold, hlk, htr0⟩ := G
  intro H locs cells slots ls hP hI hN hS hc hs hl
  exact lv_if_lt hx hb hd ht (fun q => ht9 q H locs cells slots ls hP hI hN hS hc hs hl) (fun q => hf9 q H locs cells slots ls hP hI hN hS hc hs hl)
theorem z_if_ge {Y : zC} {E0 : zE} {cc : ByteArray} {nL0 : Nat} {own : String} {R0 : Room} (G : zG Y E0 cc nL0 own R0) {w : zM} {c0 s0 pc : Nat} {lv : List (Option Value)} {st : List Value} {x : Int32} {off : Int} {tgt : Nat} (hd : decode cc pc = .ok (.ifCond .ge off, 3)) (ht : (pc : Int) + off = (tgt : Int)) (ht9 : x < 0 → Z Y w c0 s0 (pc + 3) lv st) (hf9 : ¬ x < 0 → Z Y w c0 s0 tgt lv st) : Z Y w c0 s0 pc lv (.int x :: st) := by
  obtain ⟨E, A, nL, p, l, e, R, s, m, args, below, meth, c, Q⟩ := Y
  obtain ⟨rfl, rfl, rfl, hok, hwarm, hx, hb, hml, hown, hts, hA, hold, hlk, htr0⟩ := G
  intro H locs cells slots ls hP hI hN hS hc hs hl
  exact lv_if_ge hx hb hd ht (fun q => hf9 (znlt_of q) H locs cells slots ls hP hI hN hS hc hs hl) (fun q => ht9 (zlt_of q) H locs cells slots ls hP hI hN hS hc hs hl)
theorem z_if_gt {Y : zC} {E0 : zE} {cc : ByteArray} {nL0 : Nat} {own : String} {R0 : Room} (G : zG Y E0 cc nL0 own R0) {w : zM} {c0 s0 pc : Nat} {lv : List (Option Value)} {st : List Value} {x : Int32} {off : Int} {tgt : Nat} (hd : decode cc pc = .ok (.ifCond .gt off, 3)) (ht : (pc : Int) + off = (tgt : Int)) (ht9 : 0 < x → Z Y w c0 s0 tgt lv st) (hf9 : ¬ 0 < x → Z Y w c0 s0 (pc + 3) lv st) : Z Y w c0 s0 pc lv (.int x :: st) := by
  obtain ⟨E, A, nL, p, l, e, R, s, m, args, below, meth, c, Q⟩ := Y
  obtain ⟨rfl, rfl, rfl, hok, hwarm, hx, hb, hml, hown, hts, hA, hold, hlk, htr0⟩ := G
  intro H locs cells slots ls hP hI hN hS hc hs hl
  exact lv_if_gt hx hb hd ht (fun q => ht9 q H locs cells slots ls hP hI hN hS hc hs hl) (fun q => hf9 q H locs cells slots ls hP hI hN hS hc hs hl)
theorem z_if_le {Y : zC} {E0 : zE} {cc : ByteArray} {nL0 : Nat} {own : String} {R0 : Room} (G : zG Y E0 cc nL0 own R0) {w : zM} {c0 s0 pc : Nat} {lv : List (Option Value)} {st : List Value} {x : Int32} {off : Int} {tgt : Nat} (hd : decode cc pc = .ok (.ifCond .le off, 3)) (ht : (pc : Int) + off = (tgt : Int)) (ht9 : 0 < x → Z Y w c0 s0 (pc + 3) lv st) (hf9 : ¬ 0 < x → Z Y w c0 s0 tgt lv st) : Z Y w c0 s0 pc lv (.int x :: st) := by
  obtain ⟨E, A, nL, p, l, e, R, s, m, args, below, meth, c, Q⟩ := Y
  obtain ⟨rfl, rfl, rfl, hok, hwarm, hx, hb, hml, hown, hts, hA, hold, hlk, htr0⟩ := G
  intro H locs cells slots ls hP hI hN hS hc hs hl
  exact lv_if_le hx hb hd ht (fun q => hf9 (znlt_of q) H locs cells slots ls hP hI hN hS hc hs hl) (fun q => ht9 (zlt_of q) H locs cells slots ls hP hI hN hS hc hs hl)
theorem z_goto {Y : zC} {E0 : zE} {cc : ByteArray} {nL0 : Nat} {own : String} {R0 : Room} (G : zG Y E0 cc nL0 own R0) {w : zM} {c0 s0 pc : Nat} {lv : List (Option Value)} {st : List Value}  {off : Int} {tgt : Nat} (hd : decode cc pc = .ok (.goto off, 3)) (ht : (pc : Int) + off = (tgt : Int)) (h : Z Y w c0 s0 tgt lv st) : Z Y w c0 s0 pc lv st := by
  obtain ⟨E, A, nL, p, l, e, R, s, m, args, below, meth, c, Q⟩ := Y
  obtain ⟨rfl, rfl, rfl, hok, hwarm, hx, hb, hml, hown, hts, hA, hold, hlk, htr0⟩ := G
  intro H locs cells slots ls hP hI hN hS hc hs hl
  exact lv_goto hx hb hd ht (h H locs cells slots ls hP hI hN hS hc hs hl)
theorem z_ifnull {Y : zC} {E0 : zE} {cc : ByteArray} {nL0 : Nat} {own : String} {R0 : Room} (G : zG Y E0 cc nL0 own R0) {w : zM} {c0 s0 pc : Nat} {lv : List (Option Value)} {st : List Value} {o : Option Nat} {off : Int} {tgt : Nat} (hd : decode cc pc = .ok (.ifnull off, 3)) (ht : (pc : Int) + off = (tgt : Int)) (hn : o = none → Z Y w c0 s0 tgt lv st) (hs0 : ∀ x, o = some x → Z Y w c0 s0 (pc + 3) lv st) : Z Y w c0 s0 pc lv (va_rf o :: st) := by
  obtain ⟨E, A, nL, p, l, e, R, s, m, args, below, meth, c, Q⟩ := Y
  obtain ⟨rfl, rfl, rfl, hok, hwarm, hx, hb, hml, hown, hts, hA, hold, hlk, htr0⟩ := G
  intro H locs cells slots ls hP hI hN hS hc hs hl
  cases o with
  | none => exact lv_ifnullN hx hb hd ht (hn rfl H locs cells slots ls hP hI hN hS hc hs hl)
  | some x => exact lv_ifnull hx hb hd (hs0 x rfl H locs cells slots ls hP hI hN hS hc hs hl)
theorem z_ifnonnull {Y : zC} {E0 : zE} {cc : ByteArray} {nL0 : Nat} {own : String} {R0 : Room} (G : zG Y E0 cc nL0 own R0) {w : zM} {c0 s0 pc : Nat} {lv : List (Option Value)} {st : List Value} {o : Option Nat} {off : Int} {tgt : Nat} (hd : decode cc pc = .ok (.ifnonnull off, 3)) (ht : (pc : Int) + off = (tgt : Int)) (hn : o = none → Z Y w c0 s0 (pc + 3) lv st) (hs0 : ∀ x, o = some x → Z Y w c0 s0 tgt lv st) : Z Y w c0 s0 pc lv (va_rf o :: st) := by
  obtain ⟨E, A, nL, p, l, e, R, s, m, args, below, meth, c, Q⟩ := Y
  obtain ⟨rfl, rfl, rfl, hok, hwarm, hx, hb, hml, hown, hts, hA, hold, hlk, htr0⟩ := G
  intro H locs cells slots ls hP hI hN hS hc hs hl
  cases o with
  | none => exact lv_ifnonnullN hx hb hd (hn rfl H locs cells slots ls hP hI hN hS hc hs hl)
  | some x => exact lv_ifnonnull hx hb hd ht (hs0 x rfl H locs cells slots ls hP hI hN hS hc hs hl)
theorem z_tableIn {Y : zC} {E0 : zE} {cc : ByteArray} {nL0 : Nat} {own : String} {R0 : Room} (G : zG Y E0 cc nL0 own R0) {w : zM} {c0 s0 pc : Nat} {lv : List (Option Value)} {st : List Value} {x : Int32} {dflt lo hi off : Int} {offs : Array Int} {len tgt : Nat} (hd : decode cc pc = .ok (.tableswitch dflt lo hi offs, len)) (h1 : ¬ x.toInt < lo) (h2 : ¬ hi < x.toInt) (ho : offs[(x.toInt - lo).toNat]? = some off) (ht : (pc : Int) + off = (tgt : Int)) (h : Z Y w c0 s0 tgt lv st) : Z Y w c0 s0 pc lv (.int x :: st) := by
  obtain ⟨E, A, nL, p, l, e, R, s, m, args, below, meth, c, Q⟩ := Y
  obtain ⟨rfl, rfl, rfl, hok, hwarm, hx, hb, hml, hown, hts, hA, hold, hlk, htr0⟩ := G
  intro H locs cells slots ls hP hI hN hS hc hs hl
  exact lv_tableIn hx hb hd h1 h2 ho ht (h H locs cells slots ls hP hI hN hS hc hs hl)
theorem z_tableOut {Y : zC} {E0 : zE} {cc : ByteArray} {nL0 : Nat} {own : String} {R0 : Room} (G : zG Y E0 cc nL0 own R0) {w : zM} {c0 s0 pc : Nat} {lv : List (Option Value)} {st : List Value} {x : Int32} {dflt lo hi : Int} {offs : Array Int} {len tgt : Nat} (hd : decode cc pc = .ok (.tableswitch dflt lo hi offs, len)) (h1 : x.toInt < lo ∨ hi < x.toInt) (ht : (pc : Int) + dflt = (tgt : Int)) (h : Z Y w c0 s0 tgt lv st) : Z Y w c0 s0 pc lv (.int x :: st) := by
  obtain ⟨E, A, nL, p, l, e, R, s, m, args, below, meth, c, Q⟩ := Y
  obtain ⟨rfl, rfl, rfl, hok, hwarm, hx, hb, hml, hown, hts, hA, hold, hlk, htr0⟩ := G
  intro H locs cells slots ls hP hI hN hS hc hs hl
  exact lv_tableOut hx hb hd h1 ht (h H locs cells slots ls hP hI hN hS hc hs hl)
theorem z_lookup {Y : zC} {E0 : zE} {cc : ByteArray} {nL0 : Nat} {own : String} {R0 : Room} (G : zG Y E0 cc nL0 own R0) {w : zM} {c0 s0 pc : Nat} {lv : List (Option Value)} {st : List Value} {x : Int32} {dflt off : Int} {ps : Array (Int × Int)} {len tgt : Nat} (hd : decode cc pc = .ok (.lookupswitch dflt ps, len)) (hp : (ps.toList.zip (ps.toList.drop 1)).all (fun (a, next) => a.1 < next.1) = true) (ho : Op.lookupswitch.offset ps.toList dflt x.toInt = off) (ht : (pc : Int) + off = (tgt : Int)) (h : Z Y w c0 s0 tgt lv st) : Z Y w c0 s0 pc lv (.int x :: st) := by
  obtain ⟨E, A, nL, p, l, e, R, s, m, args, below, meth, c, Q⟩ := Y
  obtain ⟨rfl, rfl, rfl, hok, hwarm, hx, hb, hml, hown, hts, hA, hold, hlk, htr0⟩ := G
  intro H locs cells slots ls hP hI hN hS hc hs hl
  exact lv_lookup hx hb hd hp ho ht (h H locs cells slots ls hP hI hN hS hc hs hl)
