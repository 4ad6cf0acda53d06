/-! GENERIC ROWS: a state of locals as a list read from the front; a walk over a picture of the heap that is a parameter -/
def lkp : List (Nat × Option Value) → Nat → Option Value
  | [], _ => none
  | q :: l, i => bif Nat.beq q.1 i then q.2 else lkp l i
def lq (ls : Array Slot) (nL : Nat) (l : List (Nat × Option Value)) : Prop := ls.size = nL ∧ lv_wf ls ∧ ∀ (i : Nat) (v : Value), lkp l i = some v → ls[i]? = some (.val v)
theorem lkp_cons (i : Nat) (v : Option Value) (l : List (Nat × Option Value)) (j : Nat) : lkp ((i, v) :: l) j = if j = i then v else lkp l j := by
  show (bif Nat.beq i j then v else lkp l j) = _
  by_cases h : j = i
  · subst h
    rw [if_pos rfl, show Nat.beq j j = true from Nat.beq_refl j]
    rfl
  · have : Nat.beq i j = false := by
      cases hb : Nat.beq i j with
      | false => rfl
      | true => exact absurd (Nat.eq_of_beq_eq_true hb).symm h
    rw [if_neg h, this]
    rfl
theorem lq_at {ls : Array Slot} {nL : Nat} {l : List (Nat × Option Value)} (h : lq ls nL l) {i : Nat} {v : Value} (hk : lkp l i = some v) : ls[i]? = some (.val v) := h.2.2 i v hk
theorem lq_has {ls : Array Slot} {nL : Nat} {l : List (Nat × Option Value)} (h : lq ls nL l) : lv_has ls nL ((List.range nL).filterMap fun i => (lkp l i).map fun v => (i, v)) := by
  refine ⟨h.1, h.2.1, fun q hq => ?_⟩
  obtain ⟨i, -, hi⟩ := List.mem_filterMap.mp hq
  cases hl : lkp l i with
  | none => rw [hl] at hi; cases hi
  | some v =>
    rw [hl] at hi
    cases hi
    exact h.2.2 i v hl
theorem lq_mem {ls : Array Slot} {nL : Nat} {l : List (Nat × Option Value)} (h : lq ls nL l) {i : Nat} {v : Value} (hk : lkp l i = some v) : (i, v) ∈ (List.range nL).filterMap fun i => (lkp l i).map fun v => (i, v) := by
  have h1 := h.2.2 i v hk
  have h2 : i < nL := by rw [← h.1]; exact (Array.getElem?_eq_some_iff.mp h1).1
  exact List.mem_filterMap.mpr ⟨i, List.mem_range.mpr h2, by rw [hk]; rfl⟩
/-- no long lies just below place i -/
def lkn (l : List (Nat × Option Value)) (i : Nat) : Bool := match i with
  | 0 => true
  | j + 1 => match lkp l j with
    | some v => !(v.category == 2)
    | none => true
theorem lkn_ne {l : List (Nat × Option Value)} {i j : Nat} {w : Value} (h : lkn l i = true) (hj : j + 1 = i) (hw : lkp l j = some w) : ¬ w.category = 2 := by
  subst hj
  simp only [lkn, hw] at h
  simpa using h
theorem lq_st1 {ls ls' : Array Slot} {nL : Nat} {l : List (Nat × Option Value)} {i : Nat} {v : Value} (h : lq ls nL l) (hn : lkn l i = true)
    (h' : lv_has ls' nL ((i, v) :: ((List.range nL).filterMap fun i => (lkp l i).map fun v => (i, v)).filter (fun q => !(q.1 == i) && !(q.1 + 1 == i && q.2.category == 2)))) : lq ls' nL ((i, some v) :: l) := by
  refine ⟨h'.1, h'.2.1, fun j w hw => ?_⟩
  rw [lkp_cons] at hw
  by_cases hj : j = i
  · rw [if_pos hj] at hw
    cases hw
    rw [hj]
    exact h'.2.2 _ List.mem_cons_self
  · rw [if_neg hj] at hw
    refine h'.2.2 (j, w) (List.mem_cons_of_mem _ (List.mem_filter.mpr ⟨lq_mem h hw, ?_⟩))
    by_cases hji : j + 1 = i
    · have := lkn_ne hn hji hw
      simp [hj, this]
    · simp [hj, hji]
theorem lq_st2 {ls ls' : Array Slot} {nL : Nat} {l : List (Nat × Option Value)} {i : Nat} {v : Value} (h : lq ls nL l) (hn : lkn l i = true)
    (h' : lv_has ls' nL ((i, v) :: ((List.range nL).filterMap fun i => (lkp l i).map fun v => (i, v)).filter (fun q => !(q.1 == i) && (!(q.1 == i + 1) && !(q.1 + 1 == i && q.2.category == 2))))) : lq ls' nL ((i, some v) :: (i + 1, none) :: l) := by
  refine ⟨h'.1, h'.2.1, fun j w hw => ?_⟩
  rw [lkp_cons] at hw
  by_cases hj : j = i
  · rw [if_pos hj] at hw
    cases hw
    rw [hj]
    exact h'.2.2 _ List.mem_cons_self
  · rw [if_neg hj, lkp_cons] at hw
    by_cases hj1 : j = i + 1
    · rw [if_pos hj1] at hw
      cases hw
    · rw [if_neg hj1] at hw
      refine h'.2.2 (j, w) (List.mem_cons_of_mem _ (List.mem_filter.mpr ⟨lq_mem h hw, ?_⟩))
      by_cases hji : j + 1 = i
      · have := lkn_ne hn hji hw
        simp [hj, hj1, this]
      · simp [hj, hj1, hji]
/-- fewer, or in another order -/
theorem lq_sub {ls : Array Slot} {nL : Nat} {l l' : List (Nat × Option Value)} (h : lq ls nL l) (hl : l'.map (fun q => lkp l q.1) = l'.map (fun q => q.2)) : lq ls nL l' := by
  refine ⟨h.1, h.2.1, fun i v hv => h.2.2 i v ?_⟩
  induction l' with
  | nil => cases hv
  | cons q t ih =>
    obtain ⟨k, w⟩ := q
    simp only [List.map_cons, List.cons.injEq] at hl
    rw [lkp_cons] at hv
    by_cases hi : i = k
    · rw [if_pos hi] at hv
      rw [hi, hl.1, hv]
    · rw [if_neg hi] at hv
      exact ih hl.2 hv
def lq_args (i : Nat) (vs : List Value) : List (Nat × Option Value) := (lv_args i vs).map fun q => (q.1, some q.2)
theorem lq_of {ls : Array Slot} {nL : Nat} {lv : List (Nat × Value)} (h : lv_has ls nL lv) : lq ls nL (lv.map fun q => (q.1, some q.2)) := by
  refine ⟨h.1, h.2.1, fun i v hv => ?_⟩
  have h2 : ∀ lv : List (Nat × Value), (∀ q ∈ lv, ls[q.1]? = some (.val q.2)) → lkp (lv.map fun q => (q.1, some q.2)) i = some v → ls[i]? = some (.val v) := by
    intro lv
    induction lv with
    | nil => intro _ h; cases h
    | cons q t ih =>
      intro ha hk
      rw [List.map_cons, lkp_cons] at hk
      by_cases hi : i = q.1
      · rw [if_pos hi] at hk
        cases hk
        rw [hi]
        exact ha q List.mem_cons_self
      · rw [if_neg hi] at hk
        exact ih (fun q hq => ha q (List.mem_cons_of_mem _ hq)) hk
  exact h2 lv h.2.2 hv
/-- what is fixed in a method's body -/
def GX (p : Program) (m : MethodId) (c : Code) (cc : ByteArray) (nL : Nat) (s : State) (args : Array Value) (meth : Method) (D : va_G) (cl : List vw_C) (tys : List (ClassId × FieldType)) (ret : Option FieldType) (own : String) : Prop :=
  CallFix p m c cc nL s args lw_all own ∧ meth.sig.returnType = ret ∧ meth.locks = false ∧ va_K D cl tys s
def GW (p : Program) (l : Launch) (e : Env) (R : Room) (s : State) (m : MethodId) (args : Array Value) (below : List Frame) (meth : Method) (c : Code) (Q : State → Prop) (I : Heap → List Loc → Nat → Nat → Prop) (g : JFrame) : Prop :=
  ∀ (H : Heap) (locs : List Loc) (cells slots : Nat), I H locs cells slots → W p l e R s m args below meth c H locs cells slots Q g
section GRows
variable {p : Program} {l : Launch} {e : Env} {R : Room} {s : State} {m : MethodId} {args : Array Value} {below : List Frame} {meth : Method} {c : Code} {cc : ByteArray} {nL : Nat} {own : String} {D : va_G} {cl : List vw_C} {tys : List (ClassId × FieldType)} {ret : Option FieldType} {Q : State → Prop} {I : Heap → List Loc → Nat → Nat → Prop} {ls : Array Slot} {lq0 : List (Nat × Option Value)} {pc : Nat} {rest : List Value}
theorem GX.hx (K : GX p m c cc nL s args meth D cl tys ret own) : p.tables.exec = Jvm.exec := K.1.1
theorem GX.hb (K : GX p m c cc nL s args meth D cl tys ret own) : c.code = cc := K.1.2.1
theorem GX.hml (K : GX p m c cc nL s args meth D cl tys ret own) : c.maxLocals = nL := K.1.2.2.1
theorem GX.hown (K : GX p m c cc nL s args meth D cl tys ret own) : s.vm.findClass own = some m.cls := K.1.2.2.2.1
theorem GX.hts (K : GX p m c cc nL s args meth D cl tys ret own) : ∀ w ∈ lw_all, w.before args s = true := K.1.2.2.2.2
theorem GX.hr (K : GX p m c cc nL s args meth D cl tys ret own) : meth.sig.returnType = ret := K.2.1
theorem GX.hlk (K : GX p m c cc nL s args meth D cl tys ret own) : meth.locks = false := K.2.2.1
theorem GX.hK (K : GX p m c cc nL s args meth D cl tys ret own) : va_K D cl tys s := K.2.2.2
theorem g_iconst (K : GX p m c cc nL s args meth D cl tys ret own) {n : Int} {v : Int32} (d : decode cc pc = .ok (.iconst n, 1)) (hv : Int32.ofInt n = v) (k : GW p l e R s m args below meth c Q I (F0 m (pc + 1) ls (.int v :: rest))) : GW p l e R s m args below meth c Q I (F0 m pc ls (rest)) := fun H locs cs sl hI => lv_iconst K.hx K.hb d hv (k H locs cs sl hI)
theorem g_bipush (K : GX p m c cc nL s args meth D cl tys ret own) {n : Int} {v : Int32} (d : decode cc pc = .ok (.bipush n, 2)) (hv : (Int8.ofInt n).toInt32 = v) (k : GW p l e R s m args below meth c Q I (F0 m (pc + 2) ls (.int v :: rest))) : GW p l e R s m args below meth c Q I (F0 m pc ls (rest)) := fun H locs cs sl hI => lv_bipush K.hx K.hb d hv (k H locs cs sl hI)
theorem g_sipush (K : GX p m c cc nL s args meth D cl tys ret own) {n : Int} {v : Int32} (d : decode cc pc = .ok (.sipush n, 3)) (hv : (Int16.ofInt n).toInt32 = v) (k : GW p l e R s m args below meth c Q I (F0 m (pc + 3) ls (.int v :: rest))) : GW p l e R s m args below meth c Q I (F0 m pc ls (rest)) := fun H locs cs sl hI => lv_sipush K.hx K.hb d hv (k H locs cs sl hI)
theorem g_lconst (K : GX p m c cc nL s args meth D cl tys ret own) {n : Fin 2} {v : Int64} (d : decode cc pc = .ok (.lconst n, 1)) (hv : Int64.ofNat (n : Nat) = v) (k : GW p l e R s m args below meth c Q I (F0 m (pc + 1) ls (.long v :: rest))) : GW p l e R s m args below meth c Q I (F0 m pc ls (rest)) := fun H locs cs sl hI => lv_lconst K.hx K.hb d hv (k H locs cs sl hI)
theorem g_ldc (K : GX p m c cc nL s args meth D cl tys ret own) {index : Nat} {v : Int32} (d : decode cc pc = .ok (.ldc index, 2)) (hq : Jvm.Cond.constant own index v ∈ lw_all) (k : GW p l e R s m args below meth c Q I (F0 m (pc + 2) ls (.int v :: rest))) : GW p l e R s m args below meth c Q I (F0 m pc ls (rest)) := fun H locs cs sl hI => lv_ldc K.hx K.hb K.hown (K.hts _ hq) d (k H locs cs sl hI)
theorem g_ldcw (K : GX p m c cc nL s args meth D cl tys ret own) {index : Nat} {v : Int32} (d : decode cc pc = .ok (.ldc_w index, 3)) (hq : Jvm.Cond.constant own index v ∈ lw_all) (k : GW p l e R s m args below meth c Q I (F0 m (pc + 3) ls (.int v :: rest))) : GW p l e R s m args below meth c Q I (F0 m pc ls (rest)) := fun H locs cs sl hI => lv_ldcw K.hx K.hb K.hown (K.hts _ hq) d (k H locs cs sl hI)
theorem g_ldc2 (K : GX p m c cc nL s args meth D cl tys ret own) {index : Nat} {v : Int64} (d : decode cc pc = .ok (.ldc2_w index, 3)) (hq : Jvm.Cond.constantLong own index v ∈ lw_all) (k : GW p l e R s m args below meth c Q I (F0 m (pc + 3) ls (.long v :: rest))) : GW p l e R s m args below meth c Q I (F0 m pc ls (rest)) := fun H locs cs sl hI => lv_ldc2 K.hx K.hb K.hown (K.hts _ hq) d (k H locs cs sl hI)
theorem g_iload_n (K : GX p m c cc nL s args meth D cl tys ret own) {kk : Fin 4} {i : Nat} {x : Int32} (h : lq ls nL lq0) (d : decode cc pc = .ok (.iload_n kk, 1)) (hi : (kk : Nat) = i) (hl : lkp lq0 i = some (.int x)) (k : GW p l e R s m args below meth c Q I (F0 m (pc + 1) ls (.int x :: rest))) : GW p l e R s m args below meth c Q I (F0 m pc ls (rest)) := fun H locs cs sl hI => lv_iload_n K.hx K.hb d hi (lq_at h hl) (k H locs cs sl hI)
theorem g_iload (K : GX p m c cc nL s args meth D cl tys ret own) {i : Nat} {x : Int32} (h : lq ls nL lq0) (d : decode cc pc = .ok (.iload i, 2)) (hl : lkp lq0 i = some (.int x)) (k : GW p l e R s m args below meth c Q I (F0 m (pc + 2) ls (.int x :: rest))) : GW p l e R s m args below meth c Q I (F0 m pc ls (rest)) := fun H locs cs sl hI => lv_iload K.hx K.hb d (lq_at h hl) (k H locs cs sl hI)
theorem g_istore_n (K : GX p m c cc nL s args meth D cl tys ret own) {kk : Fin 4} {i : Nat} {x : Int32} (h : lq ls nL lq0) (d : decode cc pc = .ok (.istore_n kk, 1)) (hi : (kk : Nat) = i) (hn : Nat.blt i nL = true) (hk : lkn lq0 i = true) (k : ∀ ls : Array Slot, lq ls nL ((i, some (.int x)) :: lq0) → GW p l e R s m args below meth c Q I (F0 m (pc + 1) ls (rest))) : GW p l e R s m args below meth c Q I (F0 m pc ls (.int x :: rest)) := fun H locs cs sl hI => lv_istore_n K.hx K.hb d hi (lq_has h) (Nat.le_of_ble_eq_true hn) rfl (fun ls' h' => k ls' (lq_st1 h hk h') H locs cs sl hI)
theorem g_istore (K : GX p m c cc nL s args meth D cl tys ret own) {i : Nat} {x : Int32} (h : lq ls nL lq0) (d : decode cc pc = .ok (.istore i, 2)) (hn : Nat.blt i nL = true) (hk : lkn lq0 i = true) (k : ∀ ls : Array Slot, lq ls nL ((i, some (.int x)) :: lq0) → GW p l e R s m args below meth c Q I (F0 m (pc + 2) ls (rest))) : GW p l e R s m args below meth c Q I (F0 m pc ls (.int x :: rest)) := fun H locs cs sl hI => lv_istore K.hx K.hb d (lq_has h) (Nat.le_of_ble_eq_true hn) rfl (fun ls' h' => k ls' (lq_st1 h hk h') H locs cs sl hI)
theorem g_lload_n (K : GX p m c cc nL s args meth D cl tys ret own) {kk : Fin 4} {i : Nat} {x : Int64} (h : lq ls nL lq0) (d : decode cc pc = .ok (.lload_n kk, 1)) (hi : (kk : Nat) = i) (hl : lkp lq0 i = some (.long x)) (k : GW p l e R s m args below meth c Q I (F0 m (pc + 1) ls (.long x :: rest))) : GW p l e R s m args below meth c Q I (F0 m pc ls (rest)) := fun H locs cs sl hI => lv_lload_n K.hx K.hb d hi (lq_at h hl) (k H locs cs sl hI)
theorem g_lload (K : GX p m c cc nL s args meth D cl tys ret own) {i : Nat} {x : Int64} (h : lq ls nL lq0) (d : decode cc pc = .ok (.lload i, 2)) (hl : lkp lq0 i = some (.long x)) (k : GW p l e R s m args below meth c Q I (F0 m (pc + 2) ls (.long x :: rest))) : GW p l e R s m args below meth c Q I (F0 m pc ls (rest)) := fun H locs cs sl hI => lv_lload K.hx K.hb d (lq_at h hl) (k H locs cs sl hI)
theorem g_lstore_n (K : GX p m c cc nL s args meth D cl tys ret own) {kk : Fin 4} {i : Nat} {x : Int64} (h : lq ls nL lq0) (d : decode cc pc = .ok (.lstore_n kk, 1)) (hi : (kk : Nat) = i) (hn : Nat.blt (i + 1) nL = true) (hk : lkn lq0 i = true) (k : ∀ ls : Array Slot, lq ls nL ((i, some (.long x)) :: (i + 1, none) :: lq0) → GW p l e R s m args below meth c Q I (F0 m (pc + 1) ls (rest))) : GW p l e R s m args below meth c Q I (F0 m pc ls (.long x :: rest)) := fun H locs cs sl hI => lv_lstore_n K.hx K.hb d hi (lq_has h) (Nat.le_of_ble_eq_true hn) rfl (fun ls' h' => k ls' (lq_st2 h hk h') H locs cs sl hI)
theorem g_lstore (K : GX p m c cc nL s args meth D cl tys ret own) {i : Nat} {x : Int64} (h : lq ls nL lq0) (d : decode cc pc = .ok (.lstore i, 2)) (hn : Nat.blt (i + 1) nL = true) (hk : lkn lq0 i = true) (k : ∀ ls : Array Slot, lq ls nL ((i, some (.long x)) :: (i + 1, none) :: lq0) → GW p l e R s m args below meth c Q I (F0 m (pc + 2) ls (rest))) : GW p l e R s m args below meth c Q I (F0 m pc ls (.long x :: rest)) := fun H locs cs sl hI => lv_lstore K.hx K.hb d (lq_has h) (Nat.le_of_ble_eq_true hn) rfl (fun ls' h' => k ls' (lq_st2 h hk h') H locs cs sl hI)
theorem g_aload_n (K : GX p m c cc nL s args meth D cl tys ret own) {kk : Fin 4} {i : Nat} {x : Nat} (h : lq ls nL lq0) (d : decode cc pc = .ok (.aload_n kk, 1)) (hi : (kk : Nat) = i) (hl : lkp lq0 i = some (.ref x)) (k : GW p l e R s m args below meth c Q I (F0 m (pc + 1) ls (.ref x :: rest))) : GW p l e R s m args below meth c Q I (F0 m pc ls (rest)) := fun H locs cs sl hI => lv_aload_n K.hx K.hb d hi (lq_at h hl) (k H locs cs sl hI)
theorem g_aload (K : GX p m c cc nL s args meth D cl tys ret own) {i : Nat} {x : Nat} (h : lq ls nL lq0) (d : decode cc pc = .ok (.aload i, 2)) (hl : lkp lq0 i = some (.ref x)) (k : GW p l e R s m args below meth c Q I (F0 m (pc + 2) ls (.ref x :: rest))) : GW p l e R s m args below meth c Q I (F0 m pc ls (rest)) := fun H locs cs sl hI => lv_aload K.hx K.hb d (lq_at h hl) (k H locs cs sl hI)
theorem g_astore_n (K : GX p m c cc nL s args meth D cl tys ret own) {kk : Fin 4} {i : Nat} {x : Nat} (h : lq ls nL lq0) (d : decode cc pc = .ok (.astore_n kk, 1)) (hi : (kk : Nat) = i) (hn : Nat.blt i nL = true) (hk : lkn lq0 i = true) (k : ∀ ls : Array Slot, lq ls nL ((i, some (.ref x)) :: lq0) → GW p l e R s m args below meth c Q I (F0 m (pc + 1) ls (rest))) : GW p l e R s m args below meth c Q I (F0 m pc ls (.ref x :: rest)) := fun H locs cs sl hI => lv_astore_n K.hx K.hb d hi (lq_has h) (Nat.le_of_ble_eq_true hn) rfl (fun ls' h' => k ls' (lq_st1 h hk h') H locs cs sl hI)
theorem g_astore (K : GX p m c cc nL s args meth D cl tys ret own) {i : Nat} {x : Nat} (h : lq ls nL lq0) (d : decode cc pc = .ok (.astore i, 2)) (hn : Nat.blt i nL = true) (hk : lkn lq0 i = true) (k : ∀ ls : Array Slot, lq ls nL ((i, some (.ref x)) :: lq0) → GW p l e R s m args below meth c Q I (F0 m (pc + 2) ls (rest))) : GW p l e R s m args below meth c Q I (F0 m pc ls (.ref x :: rest)) := fun H locs cs sl hI => lv_astore K.hx K.hb d (lq_has h) (Nat.le_of_ble_eq_true hn) rfl (fun ls' h' => k ls' (lq_st1 h hk h') H locs cs sl hI)
theorem g_iinc (K : GX p m c cc nL s args meth D cl tys ret own) {i : Nat} {n : Int} {x v : Int32} (h : lq ls nL lq0) (d : decode cc pc = .ok (.iinc i n, 3)) (hl : lkp lq0 i = some (.int x)) (hv : Int32.ofInt n = v) (hn : Nat.blt i nL = true) (hk : lkn lq0 i = true) (k : ∀ ls : Array Slot, lq ls nL ((i, some (.int (x + v))) :: lq0) → GW p l e R s m args below meth c Q I (F0 m (pc + 3) ls (rest))) : GW p l e R s m args below meth c Q I (F0 m pc ls (rest)) := by
  intro H locs cs sl hI
  subst hv
  obtain ⟨j, hj⟩ := List.getElem?_of_mem (lq_mem h hl)
  exact lv_iinc K.hx K.hb d (lq_has h) hj rfl (Nat.le_of_ble_eq_true hn) rfl (fun ls' h' => k ls' (lq_st1 h hk h') H locs cs sl hI)
theorem g_iadd (K : GX p m c cc nL s args meth D cl tys ret own) {x y : Int32} (d : decode cc pc = .ok (.iadd, 1)) (k : GW p l e R s m args below meth c Q I (F0 m (pc + 1) ls (.int (x + y) :: rest))) : GW p l e R s m args below meth c Q I (F0 m pc ls (.int y :: .int x :: rest)) := fun H locs cs sl hI => lv_iadd K.hx K.hb d (k H locs cs sl hI)
theorem g_isub (K : GX p m c cc nL s args meth D cl tys ret own) {x y : Int32} (d : decode cc pc = .ok (.isub, 1)) (k : GW p l e R s m args below meth c Q I (F0 m (pc + 1) ls (.int (x - y) :: rest))) : GW p l e R s m args below meth c Q I (F0 m pc ls (.int y :: .int x :: rest)) := fun H locs cs sl hI => lv_isub K.hx K.hb d (k H locs cs sl hI)
theorem g_imul (K : GX p m c cc nL s args meth D cl tys ret own) {x y : Int32} (d : decode cc pc = .ok (.imul, 1)) (k : GW p l e R s m args below meth c Q I (F0 m (pc + 1) ls (.int (x * y) :: rest))) : GW p l e R s m args below meth c Q I (F0 m pc ls (.int y :: .int x :: rest)) := fun H locs cs sl hI => lv_imul K.hx K.hb d (k H locs cs sl hI)
theorem g_iand (K : GX p m c cc nL s args meth D cl tys ret own) {x y : Int32} (d : decode cc pc = .ok (.iand, 1)) (k : GW p l e R s m args below meth c Q I (F0 m (pc + 1) ls (.int (x &&& y) :: rest))) : GW p l e R s m args below meth c Q I (F0 m pc ls (.int y :: .int x :: rest)) := fun H locs cs sl hI => lv_iand K.hx K.hb d (k H locs cs sl hI)
theorem g_ior (K : GX p m c cc nL s args meth D cl tys ret own) {x y : Int32} (d : decode cc pc = .ok (.ior, 1)) (k : GW p l e R s m args below meth c Q I (F0 m (pc + 1) ls (.int (x ||| y) :: rest))) : GW p l e R s m args below meth c Q I (F0 m pc ls (.int y :: .int x :: rest)) := fun H locs cs sl hI => lv_ior K.hx K.hb d (k H locs cs sl hI)
theorem g_ixor (K : GX p m c cc nL s args meth D cl tys ret own) {x y : Int32} (d : decode cc pc = .ok (.ixor, 1)) (k : GW p l e R s m args below meth c Q I (F0 m (pc + 1) ls (.int (x ^^^ y) :: rest))) : GW p l e R s m args below meth c Q I (F0 m pc ls (.int y :: .int x :: rest)) := fun H locs cs sl hI => lv_ixor K.hx K.hb d (k H locs cs sl hI)
theorem g_ishl (K : GX p m c cc nL s args meth D cl tys ret own) {x y : Int32} (d : decode cc pc = .ok (.ishl, 1)) (k : GW p l e R s m args below meth c Q I (F0 m (pc + 1) ls (.int (x <<< (y &&& 31)) :: rest))) : GW p l e R s m args below meth c Q I (F0 m pc ls (.int y :: .int x :: rest)) := fun H locs cs sl hI => lv_ishl K.hx K.hb d (k H locs cs sl hI)
theorem g_ishr (K : GX p m c cc nL s args meth D cl tys ret own) {x y : Int32} (d : decode cc pc = .ok (.ishr, 1)) (k : GW p l e R s m args below meth c Q I (F0 m (pc + 1) ls (.int (x >>> (y &&& 31)) :: rest))) : GW p l e R s m args below meth c Q I (F0 m pc ls (.int y :: .int x :: rest)) := fun H locs cs sl hI => lv_ishr K.hx K.hb d (k H locs cs sl hI)
theorem g_iushr (K : GX p m c cc nL s args meth D cl tys ret own) {x y : Int32} (d : decode cc pc = .ok (.iushr, 1)) (k : GW p l e R s m args below meth c Q I (F0 m (pc + 1) ls (.int ((x.toUInt32 >>> (y.toUInt32 &&& Int32.toUInt32 31)).toInt32) :: rest))) : GW p l e R s m args below meth c Q I (F0 m pc ls (.int y :: .int x :: rest)) := fun H locs cs sl hI => lv_iushr K.hx K.hb d rfl (k H locs cs sl hI)
theorem g_ineg (K : GX p m c cc nL s args meth D cl tys ret own) {x : Int32} (d : decode cc pc = .ok (.ineg, 1)) (k : GW p l e R s m args below meth c Q I (F0 m (pc + 1) ls (.int (-x) :: rest))) : GW p l e R s m args below meth c Q I (F0 m pc ls (.int x :: rest)) := fun H locs cs sl hI => lv_ineg K.hx K.hb d (k H locs cs sl hI)
theorem g_ladd (K : GX p m c cc nL s args meth D cl tys ret own) {x y : Int64} (d : decode cc pc = .ok (.ladd, 1)) (k : GW p l e R s m args below meth c Q I (F0 m (pc + 1) ls (.long (x + y) :: rest))) : GW p l e R s m args below meth c Q I (F0 m pc ls (.long y :: .long x :: rest)) := fun H locs cs sl hI => lv_ladd K.hx K.hb d (k H locs cs sl hI)
theorem g_lmul (K : GX p m c cc nL s args meth D cl tys ret own) {x y : Int64} (d : decode cc pc = .ok (.lmul, 1)) (k : GW p l e R s m args below meth c Q I (F0 m (pc + 1) ls (.long (x * y) :: rest))) : GW p l e R s m args below meth c Q I (F0 m pc ls (.long y :: .long x :: rest)) := fun H locs cs sl hI => lv_lmul K.hx K.hb d (k H locs cs sl hI)
theorem g_lor (K : GX p m c cc nL s args meth D cl tys ret own) {x y : Int64} (d : decode cc pc = .ok (.lor, 1)) (k : GW p l e R s m args below meth c Q I (F0 m (pc + 1) ls (.long (x ||| y) :: rest))) : GW p l e R s m args below meth c Q I (F0 m pc ls (.long y :: .long x :: rest)) := fun H locs cs sl hI => lv_lor K.hx K.hb d (k H locs cs sl hI)
theorem g_lsub (K : GX p m c cc nL s args meth D cl tys ret own) {x y : Int64} (d : decode cc pc = .ok (.lsub, 1)) (k : GW p l e R s m args below meth c Q I (F0 m (pc + 1) ls (.long (x - y) :: rest))) : GW p l e R s m args below meth c Q I (F0 m pc ls (.long y :: .long x :: rest)) := fun H locs cs sl hI => lv_lsub K.hx K.hb d (k H locs cs sl hI)
theorem g_lshl (K : GX p m c cc nL s args meth D cl tys ret own) {x : Int64} {y : Int32} (d : decode cc pc = .ok (.lshl, 1)) (k : GW p l e R s m args below meth c Q I (F0 m (pc + 1) ls (.long (x <<< (y.toInt64 &&& 63)) :: rest))) : GW p l e R s m args below meth c Q I (F0 m pc ls (.int y :: .long x :: rest)) := fun H locs cs sl hI => lv_lshl K.hx K.hb d rfl (k H locs cs sl hI)
theorem g_lcmp (K : GX p m c cc nL s args meth D cl tys ret own) {x y : Int64} (d : decode cc pc = .ok (.lcmp, 1)) (k : GW p l e R s m args below meth c Q I (F0 m (pc + 1) ls (.int (lg_cmp x y) :: rest))) : GW p l e R s m args below meth c Q I (F0 m pc ls (.long y :: .long x :: rest)) := fun H locs cs sl hI => W.lcmp K.hx K.hb d (k H locs cs sl hI)
theorem g_i2l (K : GX p m c cc nL s args meth D cl tys ret own) {x : Int32} (d : decode cc pc = .ok (.i2l, 1)) (k : GW p l e R s m args below meth c Q I (F0 m (pc + 1) ls (.long x.toInt64 :: rest))) : GW p l e R s m args below meth c Q I (F0 m pc ls (.int x :: rest)) := fun H locs cs sl hI => lv_i2l K.hx K.hb d rfl (k H locs cs sl hI)
theorem g_l2i (K : GX p m c cc nL s args meth D cl tys ret own) {x : Int64} (d : decode cc pc = .ok (.l2i, 1)) (k : GW p l e R s m args below meth c Q I (F0 m (pc + 1) ls (.int x.toInt32 :: rest))) : GW p l e R s m args below meth c Q I (F0 m pc ls (.long x :: rest)) := fun H locs cs sl hI => lv_l2i K.hx K.hb d rfl (k H locs cs sl hI)
theorem g_i2b (K : GX p m c cc nL s args meth D cl tys ret own) {x : Int32} (d : decode cc pc = .ok (.i2b, 1)) (k : GW p l e R s m args below meth c Q I (F0 m (pc + 1) ls (.int x.toInt8.toInt32 :: rest))) : GW p l e R s m args below meth c Q I (F0 m pc ls (.int x :: rest)) := fun H locs cs sl hI => lv_i2b K.hx K.hb d rfl (k H locs cs sl hI)
theorem g_i2c (K : GX p m c cc nL s args meth D cl tys ret own) {x : Int32} (d : decode cc pc = .ok (.i2c, 1)) (k : GW p l e R s m args below meth c Q I (F0 m (pc + 1) ls (.int ((x.toUInt32 % 65536).toInt32) :: rest))) : GW p l e R s m args below meth c Q I (F0 m pc ls (.int x :: rest)) := fun H locs cs sl hI => lv_i2c K.hx K.hb d rfl (k H locs cs sl hI)
theorem g_dup (K : GX p m c cc nL s args meth D cl tys ret own) {va : Value} (d : decode cc pc = .ok (.dup, 1)) (h1 : va.category = 1) (k : GW p l e R s m args below meth c Q I (F0 m (pc + 1) ls (va :: va :: rest))) : GW p l e R s m args below meth c Q I (F0 m pc ls (va :: rest)) := fun H locs cs sl hI => lv_dup K.hx K.hb d h1 (k H locs cs sl hI)
theorem g_pop (K : GX p m c cc nL s args meth D cl tys ret own) {va : Value} (d : decode cc pc = .ok (.pop, 1)) (h1 : va.category = 1) (k : GW p l e R s m args below meth c Q I (F0 m (pc + 1) ls (rest))) : GW p l e R s m args below meth c Q I (F0 m pc ls (va :: rest)) := fun H locs cs sl hI => lv_pop K.hx K.hb d h1 (k H locs cs sl hI)
theorem g_dup_x1 (K : GX p m c cc nL s args meth D cl tys ret own) {va vb : Value} (d : decode cc pc = .ok (.dup_x1, 1)) (h1 : va.category = 1) (h2 : vb.category = 1) (k : GW p l e R s m args below meth c Q I (F0 m (pc + 1) ls (va :: vb :: va :: rest))) : GW p l e R s m args below meth c Q I (F0 m pc ls (va :: vb :: rest)) := fun H locs cs sl hI => lv_dup_x1 K.hx K.hb d h1 h2 (k H locs cs sl hI)
theorem g_dup2 (K : GX p m c cc nL s args meth D cl tys ret own) {va vb : Value} (d : decode cc pc = .ok (.dup2, 1)) (h1 : va.category = 1) (h2 : vb.category = 1) (k : GW p l e R s m args below meth c Q I (F0 m (pc + 1) ls (va :: vb :: va :: vb :: rest))) : GW p l e R s m args below meth c Q I (F0 m pc ls (va :: vb :: rest)) := fun H locs cs sl hI => lv_dup2_11 K.hx K.hb d h1 h2 (k H locs cs sl hI)
theorem g_goto (K : GX p m c cc nL s args meth D cl tys ret own) {off : Int} {tgt : Nat} (d : decode cc pc = .ok (.goto off, 3)) (ht : (pc : Int) + off = (tgt : Int)) (k : GW p l e R s m args below meth c Q I (F0 m tgt ls (rest))) : GW p l e R s m args below meth c Q I (F0 m pc ls (rest)) := fun H locs cs sl hI => lv_goto K.hx K.hb d ht (k H locs cs sl hI)
/-- pure pieces of the functions that the walks follow -/
def dvI {α : Type} (x y : Int32) (k : Int32 → Option α) : Option α := if y = 0 then none else k (x / y)
def rmI {α : Type} (x y : Int32) (k : Int32 → Option α) : Option α := if y = 0 then none else k (x - x / y * y)
def dvL {α : Type} (x y : Int64) (k : Int64 → Option α) : Option α := if y = 0 then none else k (x / y)
def bzI {α : Type} (x : Int32) (k : Option α) : Option α := if x = 0 then k else if x = 1 then k else none
def bnd {α β : Type} (x : Option β) (k : β → Option α) : Option α := match x with
  | none => none
  | some t => k t
theorem bnd_some {α β : Type} (t : β) (k : β → Option α) : bnd (some t) k = k t := rfl
theorem bnd_i {α β : Type} {x : Option β} {k : β → Option α} {r : α} (h : bnd x k = some r) : ∃ t, x = some t ∧ k t = some r := by
  cases x with
  | none => cases h
  | some t => exact ⟨t, rfl, h⟩
theorem bzI_i {α : Type} {x : Int32} {k : Option α} {r : α} (h : bzI x k = some r) : (x = 0 ∨ x = 1) ∧ k = some r := by
  unfold bzI at h
  by_cases h0 : x = 0
  · rw [if_pos h0] at h; exact ⟨Or.inl h0, h⟩
  · rw [if_neg h0] at h
    by_cases h1 : x = 1
    · rw [if_pos h1] at h; exact ⟨Or.inr h1, h⟩
    · rw [if_neg h1] at h; cases h
theorem if_t {α : Type} {c : Prop} {hd : Decidable c} {a b : Option α} {r : α} (hc : c) (h : (if c then a else b) = some r) : a = some r := by rw [if_pos hc] at h; exact h
theorem if_f {α : Type} {c : Prop} {hd : Decidable c} {a b : Option α} {r : α} (hc : ¬ c) (h : (if c then a else b) = some r) : b = some r := by rw [if_neg hc] at h; exact h
theorem g_idiv (K : GX p m c cc nL s args meth D cl tys ret own) {α : Type} {x y : Int32} {kf : Int32 → Option α} {r : α} (hF : dvI x y kf = some r) (d : decode cc pc = .ok (.idiv, 1)) (k : kf (x / y) = some r → GW p l e R s m args below meth c Q I (F0 m (pc + 1) ls (.int (x / y) :: rest))) : GW p l e R s m args below meth c Q I (F0 m pc ls (.int y :: .int x :: rest)) := by
  intro H locs cs sl hI
  by_cases hy : y = 0
  · simp [dvI, hy] at hF
  · exact lv_idiv K.hx K.hb d hy (k (by simpa [dvI, hy] using hF) H locs cs sl hI)
theorem g_irem (K : GX p m c cc nL s args meth D cl tys ret own) {α : Type} {x y : Int32} {kf : Int32 → Option α} {r : α} (hF : rmI x y kf = some r) (d : decode cc pc = .ok (.irem, 1)) (k : kf (x - x / y * y) = some r → GW p l e R s m args below meth c Q I (F0 m (pc + 1) ls (.int (x - x / y * y) :: rest))) : GW p l e R s m args below meth c Q I (F0 m pc ls (.int y :: .int x :: rest)) := by
  intro H locs cs sl hI
  by_cases hy : y = 0
  · simp [rmI, hy] at hF
  · exact lv_irem K.hx K.hb d hy (k (by simpa [rmI, hy] using hF) H locs cs sl hI)
theorem g_ldiv (K : GX p m c cc nL s args meth D cl tys ret own) {α : Type} {x y : Int64} {kf : Int64 → Option α} {r : α} (hF : dvL x y kf = some r) (d : decode cc pc = .ok (.ldiv, 1)) (k : kf (x / y) = some r → GW p l e R s m args below meth c Q I (F0 m (pc + 1) ls (.long (x / y) :: rest))) : GW p l e R s m args below meth c Q I (F0 m pc ls (.long y :: .long x :: rest)) := by
  intro H locs cs sl hI
  by_cases hy : y = 0
  · simp [dvL, hy] at hF
  · exact lv_ldiv K.hx K.hb d hy (k (by simpa [dvL, hy] using hF) H locs cs sl hI)
theorem g_if_eq (K : GX p m c cc nL s args meth D cl tys ret own) {α : Type} {x : Int32} {off : Int} {tgt : Nat} {a b : Option α} {r : α} {hd : Decidable (x = 0)} (hF : (if x = 0 then a else b) = some r) (d : decode cc pc = .ok (.ifCond .eq off, 3)) (ht : (pc : Int) + off = (tgt : Int)) (kt : a = some r → GW p l e R s m args below meth c Q I (F0 m tgt ls (rest))) (kf : b = some r → GW p l e R s m args below meth c Q I (F0 m (pc + 3) ls (rest))) : GW p l e R s m args below meth c Q I (F0 m pc ls (.int x :: rest)) := fun H locs cs sl hI => lv_if_eq K.hx K.hb d ht (fun hc => kt (if_t hc hF) H locs cs sl hI) (fun hc => kf (if_f hc hF) H locs cs sl hI)
theorem g_if_ne (K : GX p m c cc nL s args meth D cl tys ret own) {α : Type} {x : Int32} {off : Int} {tgt : Nat} {a b : Option α} {r : α} {hd : Decidable (x = 0)} (hF : (if x = 0 then b else a) = some r) (d : decode cc pc = .ok (.ifCond .ne off, 3)) (ht : (pc : Int) + off = (tgt : Int)) (kt : a = some r → GW p l e R s m args below meth c Q I (F0 m tgt ls (rest))) (kf : b = some r → GW p l e R s m args below meth c Q I (F0 m (pc + 3) ls (rest))) : GW p l e R s m args below meth c Q I (F0 m pc ls (.int x :: rest)) := fun H locs cs sl hI => lv_if_ne K.hx K.hb d ht (fun hc => kt (if_f hc hF) H locs cs sl hI) (fun hc => kf (if_t hc hF) H locs cs sl hI)
theorem g_if_lt (K : GX p m c cc nL s args meth D cl tys ret own) {α : Type} {x : Int32} {off : Int} {tgt : Nat} {a b : Option α} {r : α} {hd : Decidable (x < 0)} (hF : (if x < 0 then a else b) = some r) (d : decode cc pc = .ok (.ifCond .lt off, 3)) (ht : (pc : Int) + off = (tgt : Int)) (kt : a = some r → GW p l e R s m args below meth c Q I (F0 m tgt ls (rest))) (kf : b = some r → GW p l e R s m args below meth c Q I (F0 m (pc + 3) ls (rest))) : GW p l e R s m args below meth c Q I (F0 m pc ls (.int x :: rest)) := fun H locs cs sl hI => lv_if_lt K.hx K.hb d ht (fun hc => kt (if_t hc hF) H locs cs sl hI) (fun hc => kf (if_f hc hF) H locs cs sl hI)
theorem g_if_ge (K : GX p m c cc nL s args meth D cl tys ret own) {α : Type} {x : Int32} {off : Int} {tgt : Nat} {a b : Option α} {r : α} {hd : Decidable (0 ≤ x)} (hF : (if 0 ≤ x then a else b) = some r) (d : decode cc pc = .ok (.ifCond .ge off, 3)) (ht : (pc : Int) + off = (tgt : Int)) (kt : a = some r → GW p l e R s m args below meth c Q I (F0 m tgt ls (rest))) (kf : b = some r → GW p l e R s m args below meth c Q I (F0 m (pc + 3) ls (rest))) : GW p l e R s m args below meth c Q I (F0 m pc ls (.int x :: rest)) := fun H locs cs sl hI => lv_if_ge K.hx K.hb d ht (fun hc => kt (if_t hc hF) H locs cs sl hI) (fun hc => kf (if_f hc hF) H locs cs sl hI)
theorem g_if_gt (K : GX p m c cc nL s args meth D cl tys ret own) {α : Type} {x : Int32} {off : Int} {tgt : Nat} {a b : Option α} {r : α} {hd : Decidable (0 < x)} (hF : (if 0 < x then a else b) = some r) (d : decode cc pc = .ok (.ifCond .gt off, 3)) (ht : (pc : Int) + off = (tgt : Int)) (kt : a = some r → GW p l e R s m args below meth c Q I (F0 m tgt ls (rest))) (kf : b = some r → GW p l e R s m args below meth c Q I (F0 m (pc + 3) ls (rest))) : GW p l e R s m args below meth c Q I (F0 m pc ls (.int x :: rest)) := fun H locs cs sl hI => lv_if_gt K.hx K.hb d ht (fun hc => kt (if_t hc hF) H locs cs sl hI) (fun hc => kf (if_f hc hF) H locs cs sl hI)
theorem g_if_le (K : GX p m c cc nL s args meth D cl tys ret own) {α : Type} {x : Int32} {off : Int} {tgt : Nat} {a b : Option α} {r : α} {hd : Decidable (x ≤ 0)} (hF : (if x ≤ 0 then a else b) = some r) (d : decode cc pc = .ok (.ifCond .le off, 3)) (ht : (pc : Int) + off = (tgt : Int)) (kt : a = some r → GW p l e R s m args below meth c Q I (F0 m tgt ls (rest))) (kf : b = some r → GW p l e R s m args below meth c Q I (F0 m (pc + 3) ls (rest))) : GW p l e R s m args below meth c Q I (F0 m pc ls (.int x :: rest)) := fun H locs cs sl hI => lv_if_le K.hx K.hb d ht (fun hc => kt (if_t hc hF) H locs cs sl hI) (fun hc => kf (if_f hc hF) H locs cs sl hI)
theorem g_icmp_eq (K : GX p m c cc nL s args meth D cl tys ret own) {α : Type} {x y : Int32} {off : Int} {tgt : Nat} {a b : Option α} {r : α} {hd : Decidable (x = y)} (hF : (if x = y then a else b) = some r) (d : decode cc pc = .ok (.if_icmp .eq off, 3)) (ht : (pc : Int) + off = (tgt : Int)) (kt : a = some r → GW p l e R s m args below meth c Q I (F0 m tgt ls (rest))) (kf : b = some r → GW p l e R s m args below meth c Q I (F0 m (pc + 3) ls (rest))) : GW p l e R s m args below meth c Q I (F0 m pc ls (.int y :: .int x :: rest)) := fun H locs cs sl hI => lv_icmp_eq K.hx K.hb d ht (fun hc => kt (if_t hc hF) H locs cs sl hI) (fun hc => kf (if_f hc hF) H locs cs sl hI)
theorem g_icmp_ne (K : GX p m c cc nL s args meth D cl tys ret own) {α : Type} {x y : Int32} {off : Int} {tgt : Nat} {a b : Option α} {r : α} {hd : Decidable (x = y)} (hF : (if x = y then b else a) = some r) (d : decode cc pc = .ok (.if_icmp .ne off, 3)) (ht : (pc : Int) + off = (tgt : Int)) (kt : a = some r → GW p l e R s m args below meth c Q I (F0 m tgt ls (rest))) (kf : b = some r → GW p l e R s m args below meth c Q I (F0 m (pc + 3) ls (rest))) : GW p l e R s m args below meth c Q I (F0 m pc ls (.int y :: .int x :: rest)) := fun H locs cs sl hI => lv_icmp_ne K.hx K.hb d ht (fun hc => kt (if_f hc hF) H locs cs sl hI) (fun hc => kf (if_t hc hF) H locs cs sl hI)
theorem g_icmp_lt (K : GX p m c cc nL s args meth D cl tys ret own) {α : Type} {x y : Int32} {off : Int} {tgt : Nat} {a b : Option α} {r : α} {hd : Decidable (x < y)} (hF : (if x < y then a else b) = some r) (d : decode cc pc = .ok (.if_icmp .lt off, 3)) (ht : (pc : Int) + off = (tgt : Int)) (kt : a = some r → GW p l e R s m args below meth c Q I (F0 m tgt ls (rest))) (kf : b = some r → GW p l e R s m args below meth c Q I (F0 m (pc + 3) ls (rest))) : GW p l e R s m args below meth c Q I (F0 m pc ls (.int y :: .int x :: rest)) := fun H locs cs sl hI => lv_icmp_lt K.hx K.hb d ht (fun hc => kt (if_t hc hF) H locs cs sl hI) (fun hc => kf (if_f hc hF) H locs cs sl hI)
theorem g_icmp_ge (K : GX p m c cc nL s args meth D cl tys ret own) {α : Type} {x y : Int32} {off : Int} {tgt : Nat} {a b : Option α} {r : α} {hd : Decidable (y ≤ x)} (hF : (if y ≤ x then a else b) = some r) (d : decode cc pc = .ok (.if_icmp .ge off, 3)) (ht : (pc : Int) + off = (tgt : Int)) (kt : a = some r → GW p l e R s m args below meth c Q I (F0 m tgt ls (rest))) (kf : b = some r → GW p l e R s m args below meth c Q I (F0 m (pc + 3) ls (rest))) : GW p l e R s m args below meth c Q I (F0 m pc ls (.int y :: .int x :: rest)) := fun H locs cs sl hI => lv_icmp_ge K.hx K.hb d ht (fun hc => kt (if_t hc hF) H locs cs sl hI) (fun hc => kf (if_f hc hF) H locs cs sl hI)
theorem g_icmp_gt (K : GX p m c cc nL s args meth D cl tys ret own) {α : Type} {x y : Int32} {off : Int} {tgt : Nat} {a b : Option α} {r : α} {hd : Decidable (y < x)} (hF : (if y < x then a else b) = some r) (d : decode cc pc = .ok (.if_icmp .gt off, 3)) (ht : (pc : Int) + off = (tgt : Int)) (kt : a = some r → GW p l e R s m args below meth c Q I (F0 m tgt ls (rest))) (kf : b = some r → GW p l e R s m args below meth c Q I (F0 m (pc + 3) ls (rest))) : GW p l e R s m args below meth c Q I (F0 m pc ls (.int y :: .int x :: rest)) := fun H locs cs sl hI => lv_icmp_gt K.hx K.hb d ht (fun hc => kt (if_t hc hF) H locs cs sl hI) (fun hc => kf (if_f hc hF) H locs cs sl hI)
theorem g_icmp_le (K : GX p m c cc nL s args meth D cl tys ret own) {α : Type} {x y : Int32} {off : Int} {tgt : Nat} {a b : Option α} {r : α} {hd : Decidable (x ≤ y)} (hF : (if x ≤ y then a else b) = some r) (d : decode cc pc = .ok (.if_icmp .le off, 3)) (ht : (pc : Int) + off = (tgt : Int)) (kt : a = some r → GW p l e R s m args below meth c Q I (F0 m tgt ls (rest))) (kf : b = some r → GW p l e R s m args below meth c Q I (F0 m (pc + 3) ls (rest))) : GW p l e R s m args below meth c Q I (F0 m pc ls (.int y :: .int x :: rest)) := fun H locs cs sl hI => lv_icmp_le K.hx K.hb d ht (fun hc => kt (if_t hc hF) H locs cs sl hI) (fun hc => kf (if_f hc hF) H locs cs sl hI)
theorem g_idivT (K : GX p m c cc nL s args meth D cl tys ret own) {α : Type} {x y : Int32} {kf : Int32 → Option α} {r : α} (hF : dvI x y kf = some r) (d : decode cc pc = .ok (.idiv, 1)) (k : ∀ v, kf v = some r → GW p l e R s m args below meth c Q I (F0 m (pc + 1) ls (.int v :: rest))) : GW p l e R s m args below meth c Q I (F0 m pc ls (.int y :: .int x :: rest)) := g_idiv K hF d (fun h => k _ h)
theorem g_iremT (K : GX p m c cc nL s args meth D cl tys ret own) {α : Type} {x y : Int32} {kf : Int32 → Option α} {r : α} (hF : rmI x y kf = some r) (d : decode cc pc = .ok (.irem, 1)) (k : ∀ v, kf v = some r → GW p l e R s m args below meth c Q I (F0 m (pc + 1) ls (.int v :: rest))) : GW p l e R s m args below meth c Q I (F0 m pc ls (.int y :: .int x :: rest)) := g_irem K hF d (fun h => k _ h)
theorem g_ldivT (K : GX p m c cc nL s args meth D cl tys ret own) {α : Type} {x y : Int64} {kf : Int64 → Option α} {r : α} (hF : dvL x y kf = some r) (d : decode cc pc = .ok (.ldiv, 1)) (k : ∀ v, kf v = some r → GW p l e R s m args below meth c Q I (F0 m (pc + 1) ls (.long v :: rest))) : GW p l e R s m args below meth c Q I (F0 m pc ls (.long y :: .long x :: rest)) := g_ldiv K hF d (fun h => k _ h)
theorem sw_eq {α : Type} {x v : Int32} {a b : Option α} {r : α} (h : (if x = v then a else b) = some r) : (x = v ∧ a = some r) ∨ (¬ x = v ∧ b = some r) := by
  by_cases hc : x = v
  · rw [if_pos hc] at h; exact Or.inl ⟨hc, h⟩
  · rw [if_neg hc] at h; exact Or.inr ⟨hc, h⟩
theorem g_tsw (K : GX p m c cc nL s args meth D cl tys ret own) {α : Type} {dflt lo hi : Int} {offs : Array Int} {len tgt : Nat} {x lo32 hi32 : Int32} {a b : Option α} {r : α} (hF : (if x < lo32 then a else if hi32 < x then a else b) = some r) (d : decode cc pc = .ok (.tableswitch dflt lo hi offs, len)) (h1 : lo32.toInt = lo) (h2 : hi32.toInt = hi) (ht : (pc : Int) + dflt = (tgt : Int)) (k1 : a = some r → GW p l e R s m args below meth c Q I (F0 m tgt ls (rest))) (k2 : (¬ x < lo32 ∧ ¬ hi32 < x ∧ b = some r) → GW p l e R s m args below meth c Q I (F0 m pc ls (.int x :: rest))) : GW p l e R s m args below meth c Q I (F0 m pc ls (.int x :: rest)) := by
  intro H locs cs sl hI
  by_cases hc : x < lo32
  · rw [if_pos hc] at hF
    exact lv_tableOut K.hx K.hb d (Or.inl (by rw [← h1]; exact Int32.lt_iff_toInt_lt.mp hc)) ht (k1 hF H locs cs sl hI)
  · rw [if_neg hc] at hF
    by_cases hc2 : hi32 < x
    · rw [if_pos hc2] at hF
      exact lv_tableOut K.hx K.hb d (Or.inr (by rw [← h2]; exact Int32.lt_iff_toInt_lt.mp hc2)) ht (k1 hF H locs cs sl hI)
    · rw [if_neg hc2] at hF
      exact k2 ⟨hc, hc2, hF⟩ H locs cs sl hI
theorem g_tin (K : GX p m c cc nL s args meth D cl tys ret own) {dflt lo hi off : Int} {offs : Array Int} {len tgt : Nat} {x v : Int32} (d : decode cc pc = .ok (.tableswitch dflt lo hi offs, len)) (hv : x = v) (hr : (decide (v.toInt < lo) || decide (hi < v.toInt)) = false) (ho : offs[(v.toInt - lo).toNat]? = some off) (ht : (pc : Int) + off = (tgt : Int)) (k : GW p l e R s m args below meth c Q I (F0 m tgt ls (rest))) : GW p l e R s m args below meth c Q I (F0 m pc ls (.int x :: rest)) := by
  subst hv
  intro H locs cs sl hI
  simp only [Bool.or_eq_false_iff, decide_eq_false_iff_not] at hr
  exact lv_tableIn K.hx K.hb d hr.1 hr.2 ho ht (k H locs cs sl hI)
theorem g_lsw (K : GX p m c cc nL s args meth D cl tys ret own) {dflt off : Int} {ps : Array (Int × Int)} {len tgt : Nat} {x : Int32} (d : decode cc pc = .ok (.lookupswitch dflt ps, len)) (hp : (ps.toList.zip (ps.toList.drop 1)).all (fun (a, next) => a.1 < next.1) = true) (ho : Op.lookupswitch.offset ps.toList dflt x.toInt = off) (ht : (pc : Int) + off = (tgt : Int)) (k : GW p l e R s m args below meth c Q I (F0 m tgt ls (rest))) : GW p l e R s m args below meth c Q I (F0 m pc ls (.int x :: rest)) := fun H locs cs sl hI => lv_lookup K.hx K.hb d hp ho ht (k H locs cs sl hI)
theorem ne_toInt {x v : Int32} {a : Int} (h : ¬ x = v) (hv : v.toInt = a) : x.toInt ≠ a := fun q => h (Int32.toInt_inj.mp (q.trans hv.symm))
theorem eq_toInt {x v : Int32} {a : Int} (h : x.toInt = a) (hv : v.toInt = a) : x = v := Int32.toInt_inj.mp (h.trans hv.symm)
theorem nlt_toInt {x v : Int32} {a : Int} (h : ¬ x < v) (hv : v.toInt = a) : a ≤ x.toInt := by
  rw [Int32.lt_iff_toInt_lt, hv] at h
  omega
theorem nlt_toInt2 {x v : Int32} {a : Int} (h : ¬ v < x) (hv : v.toInt = a) : x.toInt ≤ a := by
  rw [Int32.lt_iff_toInt_lt, hv] at h
  omega
theorem sw_last9 {x : Int32} (a : ¬ x < 0) (b : ¬ 8 < x) (h0 : ¬ x = 0) (h1 : ¬ x = 1) (h2 : ¬ x = 2) (h3 : ¬ x = 3) (h4 : ¬ x = 4) (h5 : ¬ x = 5) (h6 : ¬ x = 6) (h7 : ¬ x = 7) : x = 8 := by
  have a := nlt_toInt (a := 0) a rfl
  have b := nlt_toInt2 (a := 8) b rfl
  have h0 := ne_toInt (a := 0) h0 rfl
  have h1 := ne_toInt (a := 1) h1 rfl
  have h2 := ne_toInt (a := 2) h2 rfl
  have h3 := ne_toInt (a := 3) h3 rfl
  have h4 := ne_toInt (a := 4) h4 rfl
  have h5 := ne_toInt (a := 5) h5 rfl
  have h6 := ne_toInt (a := 6) h6 rfl
  have h7 := ne_toInt (a := 7) h7 rfl
  exact eq_toInt (a := 8) (by omega) rfl
theorem sw_last14 {x : Int32} (a : ¬ x < 0) (b : ¬ 13 < x) (h0 : ¬ x = 0) (h1 : ¬ x = 1) (h2 : ¬ x = 2) (h3 : ¬ x = 3) (h4 : ¬ x = 4) (h5 : ¬ x = 5) (h6 : ¬ x = 6) (h7 : ¬ x = 7) (h8 : ¬ x = 8) (h9 : ¬ x = 9) (h10 : ¬ x = 10) (h11 : ¬ x = 11) (h12 : ¬ x = 12) : x = 13 := by
  have a := nlt_toInt (a := 0) a rfl
  have b := nlt_toInt2 (a := 13) b rfl
  have h0 := ne_toInt (a := 0) h0 rfl
  have h1 := ne_toInt (a := 1) h1 rfl
  have h2 := ne_toInt (a := 2) h2 rfl
  have h3 := ne_toInt (a := 3) h3 rfl
  have h4 := ne_toInt (a := 4) h4 rfl
  have h5 := ne_toInt (a := 5) h5 rfl
  have h6 := ne_toInt (a := 6) h6 rfl
  have h7 := ne_toInt (a := 7) h7 rfl
  have h8 := ne_toInt (a := 8) h8 rfl
  have h9 := ne_toInt (a := 9) h9 rfl
  have h10 := ne_toInt (a := 10) h10 rfl
  have h11 := ne_toInt (a := 11) h11 rfl
  have h12 := ne_toInt (a := 12) h12 rfl
  exact eq_toInt (a := 13) (by omega) rfl
theorem sw_last26 {x : Int32} (a : ¬ x < 37) (b : ¬ 62 < x) (h0 : ¬ x = 37) (h1 : ¬ x = 38) (h2 : ¬ x = 39) (h3 : ¬ x = 40) (h4 : ¬ x = 41) (h5 : ¬ x = 42) (h6 : ¬ x = 43) (h7 : ¬ x = 44) (h8 : ¬ x = 45) (h9 : ¬ x = 46) (h10 : ¬ x = 47) (h11 : ¬ x = 48) (h12 : ¬ x = 49) (h13 : ¬ x = 50) (h14 : ¬ x = 51) (h15 : ¬ x = 52) (h16 : ¬ x = 53) (h17 : ¬ x = 54) (h18 : ¬ x = 55) (h19 : ¬ x = 56) (h20 : ¬ x = 57) (h21 : ¬ x = 58) (h22 : ¬ x = 59) (h23 : ¬ x = 60) (h24 : ¬ x = 61) : x = 62 := by
  have a := nlt_toInt (a := 37) a rfl
  have b := nlt_toInt2 (a := 62) b rfl
  have h0 := ne_toInt (a := 37) h0 rfl
  have h1 := ne_toInt (a := 38) h1 rfl
  have h2 := ne_toInt (a := 39) h2 rfl
  have h3 := ne_toInt (a := 40) h3 rfl
  have h4 := ne_toInt (a := 41) h4 rfl
  have h5 := ne_toInt (a := 42) h5 rfl
  have h6 := ne_toInt (a := 43) h6 rfl
  have h7 := ne_toInt (a := 44) h7 rfl
  have h8 := ne_toInt (a := 45) h8 rfl
  have h9 := ne_toInt (a := 46) h9 rfl
  have h10 := ne_toInt (a := 47) h10 rfl
  have h11 := ne_toInt (a := 48) h11 rfl
  have h12 := ne_toInt (a := 49) h12 rfl
  have h13 := ne_toInt (a := 50) h13 rfl
  have h14 := ne_toInt (a := 51) h14 rfl
  have h15 := ne_toInt (a := 52) h15 rfl
  have h16 := ne_toInt (a := 53) h16 rfl
  have h17 := ne_toInt (a := 54) h17 rfl
  have h18 := ne_toInt (a := 55) h18 rfl
  have h19 := ne_toInt (a := 56) h19 rfl
  have h20 := ne_toInt (a := 57) h20 rfl
  have h21 := ne_toInt (a := 58) h21 rfl
  have h22 := ne_toInt (a := 59) h22 rfl
  have h23 := ne_toInt (a := 60) h23 rfl
  have h24 := ne_toInt (a := 61) h24 rfl
  exact eq_toInt (a := 62) (by omega) rfl
theorem sw_last38 {x : Int32} (a : ¬ x < 0) (b : ¬ 37 < x) (h0 : ¬ x = 0) (h1 : ¬ x = 1) (h2 : ¬ x = 2) (h3 : ¬ x = 3) (h4 : ¬ x = 4) (h5 : ¬ x = 5) (h6 : ¬ x = 6) (h7 : ¬ x = 7) (h8 : ¬ x = 8) (h9 : ¬ x = 9) (h10 : ¬ x = 10) (h11 : ¬ x = 11) (h12 : ¬ x = 12) (h13 : ¬ x = 13) (h14 : ¬ x = 14) (h15 : ¬ x = 15) (h16 : ¬ x = 16) (h17 : ¬ x = 17) (h18 : ¬ x = 18) (h19 : ¬ x = 19) (h20 : ¬ x = 20) (h21 : ¬ x = 21) (h22 : ¬ x = 22) (h23 : ¬ x = 23) (h24 : ¬ x = 24) (h25 : ¬ x = 25) (h26 : ¬ x = 26) (h27 : ¬ x = 27) (h28 : ¬ x = 28) (h29 : ¬ x = 29) (h30 : ¬ x = 30) (h31 : ¬ x = 31) (h32 : ¬ x = 32) (h33 : ¬ x = 33) (h34 : ¬ x = 34) (h35 : ¬ x = 35) (h36 : ¬ x = 36) : x = 37 := by
  have a := nlt_toInt (a := 0) a rfl
  have b := nlt_toInt2 (a := 37) b rfl
  have h0 := ne_toInt (a := 0) h0 rfl
  have h1 := ne_toInt (a := 1) h1 rfl
  have h2 := ne_toInt (a := 2) h2 rfl
  have h3 := ne_toInt (a := 3) h3 rfl
  have h4 := ne_toInt (a := 4) h4 rfl
  have h5 := ne_toInt (a := 5) h5 rfl
  have h6 := ne_toInt (a := 6) h6 rfl
  have h7 := ne_toInt (a := 7) h7 rfl
  have h8 := ne_toInt (a := 8) h8 rfl
  have h9 := ne_toInt (a := 9) h9 rfl
  have h10 := ne_toInt (a := 10) h10 rfl
  have h11 := ne_toInt (a := 11) h11 rfl
  have h12 := ne_toInt (a := 12) h12 rfl
  have h13 := ne_toInt (a := 13) h13 rfl
  have h14 := ne_toInt (a := 14) h14 rfl
  have h15 := ne_toInt (a := 15) h15 rfl
  have h16 := ne_toInt (a := 16) h16 rfl
  have h17 := ne_toInt (a := 17) h17 rfl
  have h18 := ne_toInt (a := 18) h18 rfl
  have h19 := ne_toInt (a := 19) h19 rfl
  have h20 := ne_toInt (a := 20) h20 rfl
  have h21 := ne_toInt (a := 21) h21 rfl
  have h22 := ne_toInt (a := 22) h22 rfl
  have h23 := ne_toInt (a := 23) h23 rfl
  have h24 := ne_toInt (a := 24) h24 rfl
  have h25 := ne_toInt (a := 25) h25 rfl
  have h26 := ne_toInt (a := 26) h26 rfl
  have h27 := ne_toInt (a := 27) h27 rfl
  have h28 := ne_toInt (a := 28) h28 rfl
  have h29 := ne_toInt (a := 29) h29 rfl
  have h30 := ne_toInt (a := 30) h30 rfl
  have h31 := ne_toInt (a := 31) h31 rfl
  have h32 := ne_toInt (a := 32) h32 rfl
  have h33 := ne_toInt (a := 33) h33 rfl
  have h34 := ne_toInt (a := 34) h34 rfl
  have h35 := ne_toInt (a := 35) h35 rfl
  have h36 := ne_toInt (a := 36) h36 rfl
  exact eq_toInt (a := 37) (by omega) rfl
end GRows
