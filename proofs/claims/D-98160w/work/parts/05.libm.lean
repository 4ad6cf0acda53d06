/-! THE MODEL'S STORE: one object's fields and its arrays, as functions of their numbers -/
abbrev MS : Type := (Nat → Int32) × (Nat → Nat → Int32) × (Nat → Int64) × (Nat → Nat → Int64)
abbrev WS : Type := List Nat × List Nat × List Nat × List Nat
def up {α : Type} (f : Nat → α) (k : Nat) (x : α) : Nat → α := fun j => if j = k then x else f j
def gI (σ : MS) (k : Nat) : Int32 := σ.1 k
def gA (σ : MS) (k i : Nat) : Int32 := σ.2.1 k i
def gL (σ : MS) (k : Nat) : Int64 := σ.2.2.1 k
def gB (σ : MS) (k i : Nat) : Int64 := σ.2.2.2 k i
def sI (σ : MS) (k : Nat) (v : Int32) : MS := (up σ.1 k v, σ.2)
def sA (σ : MS) (k i : Nat) (v : Int32) : MS := (σ.1, up σ.2.1 k (up (σ.2.1 k) i v), σ.2.2)
def sL (σ : MS) (k : Nat) (v : Int64) : MS := (σ.1, σ.2.1, up σ.2.2.1 k v, σ.2.2.2)
def sB (σ : MS) (k i : Nat) (v : Int64) : MS := (σ.1, σ.2.1, σ.2.2.1, up σ.2.2.2 k (up (σ.2.2.2 k) i v))
def inb (i : Int32) (n : Nat) : Bool := decide (0 ≤ i) && decide (i.toNatClampNeg < n)
theorem inb_in {i : Int32} {n : Nat} (h : inb i n = true) : vp_in i n := by
  simp only [inb, Bool.and_eq_true, decide_eq_true_eq] at h
  intro q
  rcases q with q | q
  · rw [Int32.le_iff_toInt_le] at h
    rw [Int32.lt_iff_toInt_lt] at q
    omega
  · omega
def mx (w : WS) (σ τ : MS) : MS := (fun k => if k ∈ w.1 then τ.1 k else σ.1 k, fun k => if k ∈ w.2.1 then τ.2.1 k else σ.2.1 k, fun k => if k ∈ w.2.2.1 then τ.2.2.1 k else σ.2.2.1 k, fun k => if k ∈ w.2.2.2 then τ.2.2.2 k else σ.2.2.2 k)
/-- two stores that differ in the named fields and arrays alone -/
def ag (w : WS) (σ τ : MS) : Prop := (∀ k, k ∉ w.1 → τ.1 k = σ.1 k) ∧ (∀ k, k ∉ w.2.1 → τ.2.1 k = σ.2.1 k) ∧ (∀ k, k ∉ w.2.2.1 → τ.2.2.1 k = σ.2.2.1 k) ∧ (∀ k, k ∉ w.2.2.2 → τ.2.2.2 k = σ.2.2.2 k)
def wsub (v w : WS) : Bool := v.1.all (fun k => w.1.contains k) && v.2.1.all (fun k => w.2.1.contains k) && v.2.2.1.all (fun k => w.2.2.1.contains k) && v.2.2.2.all (fun k => w.2.2.2.contains k)
theorem ag.rf {w : WS} {σ : MS} : ag w σ σ := ⟨fun _ _ => rfl, fun _ _ => rfl, fun _ _ => rfl, fun _ _ => rfl⟩
theorem mx_ag {w : WS} {σ τ : MS} (h : ag w σ τ) : mx w σ τ = τ := by
  obtain ⟨h1, h2, h3, h4⟩ := h
  refine Prod.ext (funext fun k => ?_) (Prod.ext (funext fun k => ?_) (Prod.ext (funext fun k => ?_) (funext fun k => ?_)))
  · show (if k ∈ w.1 then τ.1 k else σ.1 k) = τ.1 k
    by_cases h : k ∈ w.1
    · rw [if_pos h]
    · rw [if_neg h, h1 k h]
  · show (if k ∈ w.2.1 then τ.2.1 k else σ.2.1 k) = τ.2.1 k
    by_cases h : k ∈ w.2.1
    · rw [if_pos h]
    · rw [if_neg h, h2 k h]
  · show (if k ∈ w.2.2.1 then τ.2.2.1 k else σ.2.2.1 k) = τ.2.2.1 k
    by_cases h : k ∈ w.2.2.1
    · rw [if_pos h]
    · rw [if_neg h, h3 k h]
  · show (if k ∈ w.2.2.2 then τ.2.2.2 k else σ.2.2.2 k) = τ.2.2.2 k
    by_cases h : k ∈ w.2.2.2
    · rw [if_pos h]
    · rw [if_neg h, h4 k h]
theorem wsub_nm {v w : List Nat} (h : v.all (fun k => w.contains k) = true) {k : Nat} (hk : k ∉ w) : k ∉ v := by
  intro hv
  rw [List.all_eq_true] at h
  have := h k hv
  exact hk (by simpa using this)
theorem ag.tr {v w : WS} {σ τ ρ : MS} (h : ag w σ τ) (h2 : ag v τ ρ) (hs : wsub v w = true) : ag w σ ρ := by
  simp only [wsub, Bool.and_eq_true] at hs
  obtain ⟨⟨⟨s1, s2⟩, s3⟩, s4⟩ := hs
  exact ⟨fun k hk => (h2.1 k (wsub_nm s1 hk)).trans (h.1 k hk), fun k hk => (h2.2.1 k (wsub_nm s2 hk)).trans (h.2.1 k hk), fun k hk => (h2.2.2.1 k (wsub_nm s3 hk)).trans (h.2.2.1 k hk), fun k hk => (h2.2.2.2 k (wsub_nm s4 hk)).trans (h.2.2.2 k hk)⟩
theorem up_ne {α : Type} {f : Nat → α} {k j : Nat} {x : α} (h : j ≠ k) : up f k x j = f j := if_neg h
theorem up_eq {α : Type} {f : Nat → α} {k : Nat} {x : α} : up f k x k = x := if_pos rfl
theorem con_nm {w : List Nat} {k j : Nat} (h : w.contains k = true) (hj : j ∉ w) : j ≠ k := by
  intro e
  subst e
  exact hj (by simpa using h)
theorem ag.sI {w : WS} {σ τ : MS} (h : ag w σ τ) {k : Nat} {v : Int32} (hk : w.1.contains k = true) : ag w σ (sI τ k v) :=
  ⟨fun j hj => (up_ne (con_nm hk hj)).trans (h.1 j hj), h.2.1, h.2.2.1, h.2.2.2⟩
theorem ag.sA {w : WS} {σ τ : MS} (h : ag w σ τ) {k i : Nat} {v : Int32} (hk : w.2.1.contains k = true) : ag w σ (sA τ k i v) :=
  ⟨h.1, fun j hj => (up_ne (con_nm hk hj)).trans (h.2.1 j hj), h.2.2.1, h.2.2.2⟩
theorem ag.sL {w : WS} {σ τ : MS} (h : ag w σ τ) {k : Nat} {v : Int64} (hk : w.2.2.1.contains k = true) : ag w σ (sL τ k v) :=
  ⟨h.1, h.2.1, fun j hj => (up_ne (con_nm hk hj)).trans (h.2.2.1 j hj), h.2.2.2⟩
theorem ag.sB {w : WS} {σ τ : MS} (h : ag w σ τ) {k i : Nat} {v : Int64} (hk : w.2.2.2.contains k = true) : ag w σ (sB τ k i v) :=
  ⟨h.1, h.2.1, h.2.2.1, fun j hj => (up_ne (con_nm hk hj)).trans (h.2.2.2 j hj)⟩
def vlS {α β : Type} (x : β) (k : β → Option α) : Option α := k x
def bndW {α β : Type} (x : Option (β × MS)) (w : WS) (σ : MS) (k : β → MS → Option α) : Option α := match x with
  | none => none
  | some t => k t.1 (mx w σ t.2)
def bndV {α : Type} (x : Option MS) (w : WS) (σ : MS) (k : MS → Option α) : Option α := match x with
  | none => none
  | some t => k (mx w σ t)
def mkd : Nat → Nat := fun k => match k with
  | 0 => 2
  | 1 => 0
  | 2 => 0
  | 3 => 0
  | 4 => 0
  | 5 => 0
  | 6 => 0
  | 7 => 0
  | 8 => 0
  | 9 => 1
  | 10 => 2
  | 11 => 2
  | 12 => 2
  | 13 => 2
  | 14 => 2
  | 15 => 2
  | 16 => 2
  | 17 => 2
  | 18 => 0
  | 19 => 0
  | 20 => 0
  | 21 => 0
  | 22 => 0
  | 23 => 0
  | 24 => 2
  | 25 => 2
  | 26 => 2
  | 27 => 2
  | 28 => 2
  | 29 => 2
  | 30 => 2
  | 31 => 2
  | 32 => 2
  | 33 => 2
  | 34 => 2
  | 35 => 2
  | 36 => 2
  | 37 => 2
  | 38 => 2
  | 39 => 2
  | 40 => 2
  | 41 => 2
  | 42 => 2
  | 43 => 2
  | 44 => 2
  | 45 => 2
  | 46 => 2
  | 47 => 2
  | 48 => 2
  | 49 => 0
  | 50 => 0
  | 51 => 0
  | 52 => 0
  | 53 => 0
  | 54 => 0
  | 55 => 0
  | 56 => 0
  | 57 => 0
  | 58 => 0
  | 59 => 0
  | 60 => 0
  | 61 => 0
  | 62 => 0
  | 63 => 0
  | 64 => 0
  | 65 => 0
  | 66 => 2
  | 67 => 2
  | 68 => 0
  | 69 => 0
  | 70 => 2
  | 71 => 0
  | 72 => 0
  | 73 => 2
  | 74 => 2
  | 75 => 2
  | 76 => 2
  | 77 => 2
  | 78 => 2
  | 79 => 2
  | 80 => 0
  | 81 => 2
  | 82 => 2
  | 83 => 2
  | 84 => 2
  | 85 => 0
  | 86 => 2
  | 87 => 2
  | 88 => 2
  | 89 => 2
  | 90 => 2
  | 91 => 0
  | 92 => 0
  | 93 => 2
  | 94 => 2
  | _ => 0
def mty : Nat → Nat := fun k => match k with
  | 0 => 0
  | 10 => 0
  | 11 => 0
  | 12 => 0
  | 13 => 0
  | 14 => 0
  | 15 => 0
  | 16 => 0
  | 17 => 0
  | 24 => 2
  | 25 => 0
  | 26 => 0
  | 27 => 0
  | 28 => 0
  | 29 => 0
  | 30 => 0
  | 31 => 0
  | 32 => 0
  | 33 => 0
  | 34 => 0
  | 35 => 0
  | 36 => 1
  | 37 => 0
  | 38 => 0
  | 39 => 0
  | 40 => 0
  | 41 => 0
  | 42 => 0
  | 43 => 0
  | 44 => 0
  | 45 => 0
  | 46 => 0
  | 47 => 0
  | 48 => 1
  | 66 => 0
  | 67 => 0
  | 70 => 0
  | 73 => 0
  | 74 => 0
  | 75 => 0
  | 76 => 0
  | 77 => 0
  | 78 => 0
  | 79 => 0
  | 81 => 0
  | 82 => 0
  | 83 => 0
  | 84 => 0
  | 86 => 0
  | 87 => 0
  | 88 => 0
  | 89 => 0
  | 90 => 0
  | 93 => 1
  | 94 => 0
  | _ => 0
def mlen : Nat → Nat := fun k => match k with
  | 0 => 1600
  | 10 => 3520
  | 11 => 3520
  | 12 => 11
  | 13 => 3520
  | 14 => 3520
  | 15 => 11
  | 16 => 160
  | 17 => 64
  | 24 => 20
  | 25 => 10
  | 26 => 10
  | 27 => 10
  | 28 => 10
  | 29 => 10
  | 30 => 4
  | 31 => 4
  | 32 => 4
  | 33 => 4
  | 34 => 4
  | 35 => 4
  | 36 => 10
  | 37 => 10
  | 38 => 10
  | 39 => 10
  | 40 => 10
  | 41 => 10
  | 42 => 4
  | 43 => 4
  | 44 => 4
  | 45 => 4
  | 46 => 4
  | 47 => 4
  | 48 => 10
  | 66 => 128
  | 67 => 128
  | 70 => 5120
  | 73 => 2048
  | 74 => 16
  | 75 => 16
  | 76 => 16
  | 77 => 16
  | 78 => 16
  | 79 => 16
  | 81 => 4
  | 82 => 4
  | 83 => 40
  | 84 => 36
  | 86 => 30
  | 87 => 30
  | 88 => 30
  | 89 => 30
  | 90 => 30
  | 93 => 3
  | 94 => 384
  | _ => 0
def mord : Nat → Nat := fun k => match k with
  | 0 => 0
  | 10 => 1
  | 11 => 2
  | 12 => 3
  | 13 => 4
  | 14 => 5
  | 15 => 6
  | 16 => 7
  | 17 => 8
  | 24 => 9
  | 25 => 10
  | 26 => 11
  | 27 => 12
  | 28 => 13
  | 29 => 14
  | 30 => 15
  | 31 => 16
  | 32 => 17
  | 33 => 18
  | 34 => 19
  | 35 => 20
  | 36 => 21
  | 37 => 22
  | 38 => 23
  | 39 => 24
  | 40 => 25
  | 41 => 26
  | 42 => 27
  | 43 => 28
  | 44 => 29
  | 45 => 30
  | 46 => 31
  | 47 => 32
  | 48 => 33
  | 66 => 34
  | 67 => 35
  | 70 => 36
  | 73 => 37
  | 74 => 38
  | 75 => 39
  | 76 => 40
  | 77 => 41
  | 78 => 42
  | 79 => 43
  | 81 => 44
  | 82 => 45
  | 83 => 46
  | 84 => 47
  | 86 => 48
  | 87 => 49
  | 88 => 50
  | 89 => 51
  | 90 => 52
  | 93 => 53
  | 94 => 54
  | _ => 0
theorem mord_inj : ∀ j, j < 95 → ∀ k, k < 95 → mkd j = 2 → mkd k = 2 → mord j = mord k → j = k := by decide +kernel
theorem mord_lt : ∀ k, k < 95 → mord k < 90 := by decide +kernel
def mad (qm k : Nat) : Nat := qm + 1 + mord k
def rdA {α : Type} (σ : MS) (k : Nat) (i : Int32) (f : Int32 → Option α) : Option α := if inb i (mlen k) = true then f (gA σ k i.toNatClampNeg) else none
def rdB {α : Type} (σ : MS) (k : Nat) (i : Int32) (f : Int64 → Option α) : Option α := if inb i (mlen k) = true then f (gB σ k i.toNatClampNeg) else none
def wrA {α : Type} (σ : MS) (k : Nat) (i v : Int32) (f : MS → Option α) : Option α := if inb i (mlen k) = true then f (sA σ k i.toNatClampNeg v) else none
def wrB {α : Type} (σ : MS) (k : Nat) (i : Int32) (v : Int64) (f : MS → Option α) : Option α := if inb i (mlen k) = true then f (sB σ k i.toNatClampNeg v) else none
def mV (qm : Nat) (σ : MS) (k : Nat) : Value := match mkd k with
  | 0 => .int (gI σ k)
  | 1 => .long (gL σ k)
  | _ => .ref (mad qm k)
def mAr (σ : MS) (k : Nat) : vp_A := (mlen k, match mty k with
  | 2 => .inr (.inl (gB σ k))
  | _ => .inl (gA σ k))
def clM : List vw_C := [(RX4, TX4, 95)]
def tysM (cz : Nat → ClassId) : List (ClassId × FieldType) := [(cz 0, .int), (cz 1, .boolean), (cz 2, .long)]
def PM (D : va_G) (cz : Nat → ClassId) (qm : Nat) (σ : MS) (H : Heap) : Prop := t_OB qm (D.1 0) 95 (D.2 0) H (mV qm σ) ∧ ∀ k, k < 95 → mkd k = 2 → H[mad qm k]? = some (vp_cell (cz (mty k)) (mAr σ k))
def mA (qm : Nat) : Nat → Prop := fun q => qm ≤ q ∧ q < qm + 96
def mInv (D : va_G) (cz : Nat → ClassId) (qm : Nat) (σ : MS) (H0 : Heap) : Heap → List Loc → Nat → Nat → Prop := fun H locs cs sl => PM D cz qm σ H ∧ va_S (mA qm) H0 H locs ∧ cs = 0 ∧ sl = 0
def mQ (D : va_G) (cz : Nat → ClassId) (qm : Nat) (w : WS) (σ : MS) (o : Option Value) (τ : MS) : Array Value → State → Outcome → State → Prop := fun _ st oc t => oc = .returned o ∧ PM D cz qm τ t.heap ∧ ag w σ τ ∧ va_F (mA qm) st t
abbrev mRoom (d : Nat) : Room := { frames := d, cells := 0, slots := 0, locals := 60 * d }
def mMet (l : Launch) (D : va_G) (cz : Nat → ClassId) (qm : Nat) (y : MethodName) (cc : ByteArray) (maxL : Nat) (ret : Option FieldType) (d : Nat) (w : WS) (as : List Value) (σ : MS) (o : Option Value) (τ : MS) : Prop :=
  Met l y (ws_ y cc maxL ret) (mRoom d) (va_Pc as (fun U => PM D cz qm σ U.heap ∧ va_K D clM (tysM cz) U)) (mQ D cz qm w σ o τ) 0 0 (mA qm)
abbrev ZM (p : Program) (l : Launch) (e : Env) (d : Nat) (s : State) (m : MethodId) (args : Array Value) (below : List Frame) (meth : Method) (c : Code) (D : va_G) (cz : Nat → ClassId) (qm : Nat) (w : WS) (σ0 : MS) (o : Option Value) (τ σ : MS) (g : JFrame) : Prop :=
  GW p l e (mRoom d) s m args below meth c (MQ below (mQ D cz qm w σ0 o τ) args s 0 0 (mA qm)) (mInv D cz qm σ s.heap) g
theorem mad_ne {qm j k : Nat} (hj : j < 95) (hk : k < 95) (h1 : mkd j = 2) (h2 : mkd k = 2) (h : j ≠ k) : mad qm j ≠ mad qm k := by
  intro e
  have e2 : mord j = mord k := by unfold mad at e; omega
  exact h (mord_inj j hj k hk h1 h2 e2)
theorem mad_in {qm k : Nat} (hk : k < 95) : mA qm (mad qm k) := by
  have := mord_lt k hk
  unfold mA mad
  omega
theorem mad_qm {qm k : Nat} : mad qm k ≠ qm := by unfold mad; omega
theorem m_of {l : Launch} {D : va_G} {cz : Nat → ClassId} {qm : Nat} {y : MethodName} {cc : ByteArray} {maxL : Nat} {ret : Option FieldType} {d : Nat} {w : WS} {as : List Value} {σ : MS} {o : Option Value} {τ : MS} (hy : plainName y.cls = true) (hL : Nat.ble (lg_sl as).length maxL = true)
    (body : ∀ (p : Program) (e : Env) (s : State) (m : MethodId) (args : Array Value) (below : List Frame) (meth : Method) (c : Code) (ls : Array Slot), GX p m c cc maxL s args meth D clM (tysM cz) ret y.cls → lq ls maxL (lq_args 0 as) → ZM p l e d s m args below meth c D cz qm w σ o τ σ (F0 m 0 ls [])) :
    mMet l D cz qm y cc maxL ret d w as σ o τ := by
  refine Met.ofW (cc := cc) (maxL := maxL) (ret := ret) hy rfl ?_
  intro p e s m args below meth c s₁ B hml hv
  obtain ⟨rfl, hP, hK⟩ := hv
  have hts := atoms_spec (ws := ws_ y cc maxL ret) B.pre
  have hts : ∀ w ∈ lw_all, w.before _ s = true := fun w h => hts w (List.mem_cons_of_mem _ h)
  have hown : s.vm.findClass y.cls = some m.cls := findClass_of_methodNamed B.named
  have hl := lq_of (lv_entry as (n := maxL) (Nat.le_of_ble_eq_true hL))
  rw [lg_entry_eq]
  generalize (lg_sl as ++ List.replicate (maxL - (lg_sl as).length) Slot.unset).toArray = ls at hl ⊢
  exact body p e s m _ below meth c ls ⟨⟨B.exec, B.bytes, hml, hown, hts⟩, B.returns, B.notSynchronized, hK⟩ hl s.heap [] 0 0 ⟨hP, va_S.rf, rfl, rfl⟩
/-- what a call of y asks but the link -/
def cpV (y : MethodName) (b : ByteArray) (maxL : Nat) (ret : Option FieldType) (n : Nat) : Prop := Cond.instanceMethod y ∈ lw_all ∧ Cond.selects y.cls y y ∈ lw_all ∧ Cond.initialized y.cls ∈ lw_all ∧ Cond.code y b maxL ret ∈ lw_all ∧ (y.cls ≠ "java/lang/invoke/MethodHandle" ∧ y.cls ≠ "java/lang/invoke/VarHandle" ∧ (parseMethodDescriptor y.desc).map (fun d => d.parameters.length) = some n)
def cpS (y : MethodName) (b : ByteArray) (maxL : Nat) (ret : Option FieldType) (n : Nat) : Prop := Cond.static y ∈ lw_all ∧ Cond.initialized y.cls ∈ lw_all ∧ Cond.code y b maxL ret ∈ lw_all ∧ (y.cls ≠ "java/lang/invoke/MethodHandle" ∧ y.cls ≠ "java/lang/invoke/VarHandle" ∧ (parseMethodDescriptor y.desc).map (fun d => d.parameters.length) = some n)
section MRows
variable {p : Program} {l : Launch} {e : Env} {R : Room} {s : State} {m : MethodId} {args : Array Value} {below : List Frame} {meth : Method} {c : Code} {H : Heap} {locs : List Loc} {cells slots : Nat} {Q : State → Prop} {cc : ByteArray} {nL : Nat} {own : String} {D : va_G} {cz : Nat → ClassId} {qm : Nat} {ret : Option FieldType} {ls : Array Slot} {lq0 : List (Nat × Option Value)} {pc : Nat} {rest st : List Value} {w : WS} {σ σ0 τ : MS} {o : Option Value} {H0 : Heap}
theorem m_blind {as : List Value} : FrameBlind (va_Pc as (fun U => PM D cz qm σ U.heap ∧ va_K D clM (tysM cz) U)) := fun a U g mk q => by
  obtain ⟨q0, q1, qK⟩ := q
  exact ⟨q0, q1, va_K.moved (u := U) (U := U.calling g mk a) (Vm.Alike.refl U.vm) qK⟩
theorem m_back {y : MethodName} {maxL nY dY index : Nat} {bytes : ByteArray} {ret2 : Option FieldType} {wY : WS} {As : List Value} {a : Array Value} (hr : va_Run p l e R s m args below meth c H locs cells slots 0 0 (F0 m pc ls st) rest (mQ D cz qm wY σ o τ a) (mA qm))
    (kk : ∀ (H1 : Heap) (L : List Loc), PM D cz qm τ H1 → ag wY σ τ → H.size ≤ H1.size → (∀ q : Nat, q < H.size → ¬ mA qm q → H1[q]? = H[q]?) → (∀ q ∈ L, mA qm q.base) → W p l e R s m args below meth c H1 (locs ++ L) cells slots Q (F0 m (pc + 3) ls (o.toList ++ rest))) : W p l e R s m args below meth c H locs cells slots Q (F0 m pc ls st) := by
  intro T hT X
  obtain ⟨v, st₀, t, T', L, h0, X', hL, e1, e2, ⟨hv, hP, ha, hz, hk⟩, st9⟩ := hr T hT X
  cases hv
  rw [h0] at hz hk
  obtain ⟨t2, a1, b1⟩ := kk T'.heap L (by rw [e1]; exact hP) ha (by rw [e1]; exact hz) (fun q h1 h2 => by rw [e1]; exact hk q h1 h2) hL T' rfl X'
  exact ⟨t2, st9 t2 a1, b1⟩
theorem m_coreV {y : MethodName} {maxL nY dY index : Nat} {bytes : ByteArray} {ret2 : Option FieldType} {wY : WS} {As : List Value} (S : CallFix p m c cc nL s args lw_all own) (hK : va_K D clM (tysM cz) s) (hM : mMet l D cz qm y bytes maxL ret2 dY wY (.ref qm :: As) σ o τ) (hy : y.cls = RX4) (cp : cpV y bytes maxL ret2 nY) (hq : Cond.methodLink own index y ∈ lw_all) (hn : As.length = nY)
    (hR : dY + 1 ≤ R.frames ∧ 8 + (maxL + 11) + 60 * dY ≤ R.locals) (hcs : cells ≤ R.cells ∧ slots ≤ R.slots) (h : lq ls nL lq0) (hst : st = As.reverse ++ .ref qm :: rest) (hroom : Nat.ble (rest.map fun v => v.category).sum 8 = true) (d : decode cc pc = .ok (.invokevirtual index, 3)) (hP : PM D cz qm σ H)
    (kk : ∀ (H1 : Heap) (L : List Loc), PM D cz qm τ H1 → ag wY σ τ → H.size ≤ H1.size → (∀ q : Nat, q < H.size → ¬ mA qm q → H1[q]? = H[q]?) → (∀ q ∈ L, mA qm q.base) → W p l e R s m args below meth c H1 (locs ++ L) cells slots Q (F0 m (pc + 3) ls (o.toList ++ rest))) : W p l e R s m args below meth c H locs cells slots Q (F0 m pc ls st) := by
  obtain ⟨c1, c2, c3, c4, c5⟩ := cp
  have hrec : ∃ cellB : Cell, H[qm]? = some cellB ∧ cellB.vm.isStatics = false ∧ s.vm.findClass y.cls = some cellB.cls := by
    obtain ⟨⟨cell, g1, g2, g3, -⟩, -⟩ := hP
    exact ⟨cell, g1, by rw [g3]; rfl, by rw [g2, hy]; exact (hK.1 0 _ rfl).2.1⟩
  refine m_back (y := y) (maxL := maxL) (nY := nY) (dY := dY) (index := index) (bytes := bytes) (ret2 := ret2) (As := As) (va_runV (As := As) (rest := rest) S hM (cwV nY S.2.2.2.2 (lw_V hq c1 c2 c3 c4) rfl rfl rfl ⟨rfl, c5⟩ hR) ⟨m_blind, hrec, fun U hU hW => ⟨rfl, by rw [hU]; exact hP, va_K.moved hW.alike hK⟩⟩ rfl hn h.1 hst (lv_room (Nat.le_of_ble_eq_true hroom)) d hcs) kk
theorem m_coreS {y : MethodName} {maxL nY dY index : Nat} {bytes : ByteArray} {ret2 : Option FieldType} {wY : WS} {As : List Value} (S : CallFix p m c cc nL s args lw_all own) (hK : va_K D clM (tysM cz) s) (hM : mMet l D cz qm y bytes maxL ret2 dY wY As σ o τ) (cp : cpS y bytes maxL ret2 nY) (hq : Cond.methodLink own index y ∈ lw_all) (hn : As.length = nY)
    (hR : dY + 1 ≤ R.frames ∧ 8 + (maxL + 11) + 60 * dY ≤ R.locals) (hcs : cells ≤ R.cells ∧ slots ≤ R.slots) (h : lq ls nL lq0) (hst : st = As.reverse ++ rest) (hroom : Nat.ble (rest.map fun v => v.category).sum 8 = true) (d : decode cc pc = .ok (.invokestatic index, 3)) (hP : PM D cz qm σ H)
    (kk : ∀ (H1 : Heap) (L : List Loc), PM D cz qm τ H1 → ag wY σ τ → H.size ≤ H1.size → (∀ q : Nat, q < H.size → ¬ mA qm q → H1[q]? = H[q]?) → (∀ q ∈ L, mA qm q.base) → W p l e R s m args below meth c H1 (locs ++ L) cells slots Q (F0 m (pc + 3) ls (o.toList ++ rest))) : W p l e R s m args below meth c H locs cells slots Q (F0 m pc ls st) := by
  obtain ⟨c1, c2, c3, c5⟩ := cp
  refine m_back (y := y) (maxL := maxL) (nY := nY) (dY := dY) (index := index) (bytes := bytes) (ret2 := ret2) (As := As) (va_runS (As := As) (rest := rest) S hM (va_cwS nY S.2.2.2.2 (lw_S hq c1 c2 c3) rfl rfl rfl c5 hR) ⟨m_blind, fun U hU hW => ⟨rfl, by rw [hU]; exact hP, va_K.moved hW.alike hK⟩⟩ rfl hn h.1 hst (lv_room (Nat.le_of_ble_eq_true hroom)) d hcs) kk
theorem m_SF {H1 : Heap} {L : List Loc} {A : Nat → Prop} (hS : va_S A H0 H locs) (hz : H.size ≤ H1.size) (hk : ∀ q : Nat, q < H.size → ¬ A q → H1[q]? = H[q]?) (hL : ∀ q ∈ L, A q.base) : va_S A H0 H1 (locs ++ L) :=
  ⟨Nat.le_trans hS.1 hz, fun q h1 h2 => (hk q (Nat.lt_of_lt_of_le h1 hS.1) h2).trans (hS.2.1 q h1 h2), t_lL hS.2.2 hL⟩
theorem m_R {d dY maxL : Nat} (h1 : Nat.ble (dY + 1) d = true) (h2 : Nat.ble maxL 41 = true) : dY + 1 ≤ (mRoom d).frames ∧ 8 + (maxL + 11) + 60 * dY ≤ (mRoom d).locals := by
  have h1 := Nat.le_of_ble_eq_true h1
  have h2 := Nat.le_of_ble_eq_true h2
  show dY + 1 ≤ d ∧ 8 + (maxL + 11) + 60 * dY ≤ 60 * d
  omega
theorem m_putV {k index : Nat} {v : Value} {ty : FieldType} (K : GX p m c cc nL s args meth D clM (tysM cz) ret RX4) (hk : k < 95) (hfl : Cond.fieldLink RX4 index (TX4 k).1 (TX4 k).2.1 (TX4 k).2.2.1 ∈ lw_all) (hfin : (TX4 k).2.2.2 = false) (hd : parseFieldDescriptor (TX4 k).2.2.1 = some ty) (hn : narrow ty v = v) (hfit : fits ty v = true)
    (hσ : ∀ j, j < 95 → updV (mV qm σ) k v j = mV qm τ j) (hσA : ∀ j, mAr τ j = mAr σ j) (d : decode cc pc = .ok (.putfield index, 3)) (kk : GW p l e R s m args below meth c Q (mInv D cz qm τ H0) (F0 m (pc + 3) ls rest)) : GW p l e R s m args below meth c Q (mInv D cz qm σ H0) (F0 m pc ls (v :: .ref qm :: rest)) := by
  intro H locs cs sl hI
  obtain ⟨hP, hS, hc, hl⟩ := hI
  have hap := va_apart (own := RX4) K.hts in_X4 tyX4 tyX4_ok nmX4 K.hK (show clM[0]? = some (RX4, TX4, 95) from rfl)
  obtain ⟨⟨cell, q1, q2, q3, q4⟩, hA⟩ := hP
  obtain ⟨hS2, hfc, kC, hkC, hkind⟩ := K.hK.1 0 _ rfl
  obtain ⟨cf, kf, fi, f, hi, hsl⟩ := hS2 k hk
  have hlay := K.hts _ (in_X4 _ (u_in_lay hk))
  unfold u_lay at hlay
  rw [if_neg (by rw [hfin]; decide)] at hlay
  have hst := (u_facts hfc hkC (u_lays K.hts in_X4 hk) hi).1
  have h6 := u_store hfc hkC hkind hlay hi hd hn hfit
  refine W.putK K.hx K.hb (f := f) ⟨K.hown, K.hts _ hfl, ⟨_, _, _, hi⟩, hst⟩ (by rw [q2]; exact h6) q1 q3 (by rw [hsl]; exact k2_hasslot (q4 k hk)) rfl rfl d fun H' e1 e2 e3 => ?_
  rw [hsl] at e1 ⊢
  refine kk H' _ _ _ ⟨⟨t_OB.to (V := updV (mV qm σ) k v) ⟨_, e1, q2, q3, t_set q4 hap hk v⟩ hσ, fun j hj h2 => ?_⟩, hS.put e2 e3 ⟨Nat.le_refl _, by omega⟩, hc, hl⟩
  rw [e3 _ mad_qm, hσA]
  exact hA j hj h2
theorem m_putI {α : Type} {k index : Nat} {v : Int32} {ty : FieldType} {kf : MS → Option α} {r : α} (K : GX p m c cc nL s args meth D clM (tysM cz) ret RX4) (hF : vlS (sI σ k v) kf = some r) (ha : ag w σ0 σ) (hw : w.1.contains k = true) (hkb : Nat.blt k 95 = true) (hkd : mkd k = 0) (hfl : Cond.fieldLink RX4 index (TX4 k).1 (TX4 k).2.1 (TX4 k).2.2.1 ∈ lw_all) (hfin : (TX4 k).2.2.2 = false) (hd : parseFieldDescriptor (TX4 k).2.2.1 = some ty) (hn : narrow ty (.int v) = .int v) (hfit : fits ty (.int v) = true)
    (d : decode cc pc = .ok (.putfield index, 3)) (kk : ∀ σ1, kf σ1 = some r → ag w σ0 σ1 → GW p l e R s m args below meth c Q (mInv D cz qm σ1 H0) (F0 m (pc + 3) ls rest)) : GW p l e R s m args below meth c Q (mInv D cz qm σ H0) (F0 m pc ls (.int v :: .ref qm :: rest)) := by
  have hk : k < 95 := Nat.le_of_ble_eq_true hkb
  refine m_putV (τ := sI σ k v) K hk hfl hfin hd hn hfit (fun j hj => ?_) (fun j => rfl) d (kk _ hF (ha.sI hw))
  by_cases hjk : j = k
  · subst hjk
    simp [updV, mV, hkd, gI, sI, up]
  · simp [updV, mV, hjk, gI, sI, up, gL]
theorem m_putL {α : Type} {k index : Nat} {v : Int64} {kf : MS → Option α} {r : α} (K : GX p m c cc nL s args meth D clM (tysM cz) ret RX4) (hF : vlS (sL σ k v) kf = some r) (ha : ag w σ0 σ) (hw : w.2.2.1.contains k = true) (hkb : Nat.blt k 95 = true) (hkd : mkd k = 1) (hfl : Cond.fieldLink RX4 index (TX4 k).1 (TX4 k).2.1 (TX4 k).2.2.1 ∈ lw_all) (hfin : (TX4 k).2.2.2 = false) (hd : parseFieldDescriptor (TX4 k).2.2.1 = some .long)
    (d : decode cc pc = .ok (.putfield index, 3)) (kk : ∀ σ1, kf σ1 = some r → ag w σ0 σ1 → GW p l e R s m args below meth c Q (mInv D cz qm σ1 H0) (F0 m (pc + 3) ls rest)) : GW p l e R s m args below meth c Q (mInv D cz qm σ H0) (F0 m pc ls (.long v :: .ref qm :: rest)) := by
  have hk : k < 95 := Nat.le_of_ble_eq_true hkb
  refine m_putV (τ := sL σ k v) K hk hfl hfin hd rfl rfl (fun j hj => ?_) (fun j => rfl) d (kk _ hF (ha.sL hw))
  by_cases hjk : j = k
  · subst hjk
    simp [updV, mV, hkd, gL, sL, up]
  · simp [updV, mV, hjk, gI, sL, up, gL]
theorem m_get {k index : Nat} {v : Value} (K : GX p m c cc nL s args meth D clM (tysM cz) ret RX4) (hkb : Nat.blt k 95 = true) (hfl : Cond.fieldLink RX4 index (TX4 k).1 (TX4 k).2.1 (TX4 k).2.2.1 ∈ lw_all) (hv : mV qm σ k = v) (d : decode cc pc = .ok (.getfield index, 3)) (kk : GW p l e R s m args below meth c Q (mInv D cz qm σ H0) (F0 m (pc + 3) ls (v :: rest))) : GW p l e R s m args below meth c Q (mInv D cz qm σ H0) (F0 m pc ls (.ref qm :: rest)) := by
  intro H locs cs sl hI
  have hk : k < 95 := Nat.le_of_ble_eq_true hkb
  obtain ⟨⟨cell, q1, q2, q3, q4⟩, hA⟩ := hI.1
  obtain ⟨hS2, hfc, kC, hkC, hkind⟩ := K.hK.1 0 _ rfl
  obtain ⟨cf, kf, fi, f, hi, hsl⟩ := hS2 k hk
  refine W.getf K.hx K.hb K.hown (K.hts _ hfl) hi (u_facts hfc hkC (u_lays K.hts in_X4 hk) hi).1 q1 (by rw [q3]; exact fun h => by cases h) (v := v) ?_ rfl rfl d (kk H locs cs sl hI)
  rw [hsl, q4 k hk, hv]
theorem m_ali {k : Nat} (h : mty k = 0 ∨ mty k = 1) : mAr σ k = (mlen k, .inl (gA σ k)) := by
  unfold mAr
  rcases h with h | h <;> rw [h] <;> rfl
theorem m_all {k : Nat} (h : mty k = 2) : mAr σ k = (mlen k, .inr (.inl (gB σ k))) := by
  unfold mAr
  rw [h]
  rfl
theorem mAr_sA {k j i : Nat} {v : Int32} (hj : j ≠ k) : mAr (sA σ k i v) j = mAr σ j := by
  have e1 : gA (sA σ k i v) j = gA σ j := funext fun x => by simp [gA, sA, up, hj]
  have e2 : gB (sA σ k i v) j = gB σ j := rfl
  unfold mAr
  rw [e1, e2]
theorem mAr_sB {k j i : Nat} {v : Int64} (hj : j ≠ k) : mAr (sB σ k i v) j = mAr σ j := by
  have e1 : gB (sB σ k i v) j = gB σ j := funext fun x => by simp [gB, sB, up, hj]
  have e2 : gA (sB σ k i v) j = gA σ j := rfl
  unfold mAr
  rw [e1, e2]
theorem m_iald {α : Type} {k : Nat} {i : Int32} {kf : Int32 → Option α} {r : α} (K : GX p m c cc nL s args meth D clM (tysM cz) ret RX4) (hF : rdA σ k i kf = some r) (hkb : Nat.blt k 95 = true) (h2 : mkd k = 2) (h0 : mty k = 0) (d : decode cc pc = .ok (.iaload, 1))
    (kk : ∀ v, kf v = some r → GW p l e R s m args below meth c Q (mInv D cz qm σ H0) (F0 m (pc + 1) ls (.int v :: rest))) : GW p l e R s m args below meth c Q (mInv D cz qm σ H0) (F0 m pc ls (.int i :: .ref (mad qm k) :: rest)) := by
  intro H locs cs sl hI
  have hk : k < 95 := Nat.le_of_ble_eq_true hkb
  unfold rdA at hF
  by_cases hb : inb i (mlen k) = true
  · rw [if_pos hb] at hF
    have hin := inb_in hb
    have hlt : i.toNatClampNeg < mlen k := Nat.not_le.mp fun q => hin (Or.inr q)
    have hcell := hI.1.2 k hk h2
    rw [m_ali (Or.inl h0), h0, vp_cell_i] at hcell
    exact W.iald (v := .int (gA σ k i.toNatClampNeg)) K.hx K.hb hcell ((K.hK.2 0 _ rfl).1 _ _) (fun q => by cases q) (by rw [arrV_size]; exact hin) (by rw [arrV_read _ _ hlt]) rfl rfl d (kk _ hF H locs cs sl hI)
  · rw [if_neg hb] at hF
    cases hF
theorem m_zald {α : Type} {k : Nat} {i : Int32} {kf : Int32 → Option α} {r : α} (K : GX p m c cc nL s args meth D clM (tysM cz) ret RX4) (hF : rdA σ k i kf = some r) (hkb : Nat.blt k 95 = true) (h2 : mkd k = 2) (h0 : mty k = 1) (d : decode cc pc = .ok (.baload, 1))
    (kk : ∀ v, kf v = some r → GW p l e R s m args below meth c Q (mInv D cz qm σ H0) (F0 m (pc + 1) ls (.int v :: rest))) : GW p l e R s m args below meth c Q (mInv D cz qm σ H0) (F0 m pc ls (.int i :: .ref (mad qm k) :: rest)) := by
  intro H locs cs sl hI
  have hk : k < 95 := Nat.le_of_ble_eq_true hkb
  unfold rdA at hF
  by_cases hb : inb i (mlen k) = true
  · rw [if_pos hb] at hF
    have hin := inb_in hb
    have hlt : i.toNatClampNeg < mlen k := Nat.not_le.mp fun q => hin (Or.inr q)
    have hcell := hI.1.2 k hk h2
    rw [m_ali (Or.inr h0), h0, vp_cell_i] at hcell
    exact W.zald (v := .int (gA σ k i.toNatClampNeg)) K.hx K.hb hcell ((K.hK.2 1 _ rfl).1 _ _) (fun q => by cases q) (by rw [arrV_size]; exact hin) (by rw [arrV_read _ _ hlt]) rfl rfl d (kk _ hF H locs cs sl hI)
  · rw [if_neg hb] at hF
    cases hF
theorem m_lald {α : Type} {k : Nat} {i : Int32} {kf : Int64 → Option α} {r : α} (K : GX p m c cc nL s args meth D clM (tysM cz) ret RX4) (hF : rdB σ k i kf = some r) (hkb : Nat.blt k 95 = true) (h2 : mkd k = 2) (h0 : mty k = 2) (d : decode cc pc = .ok (.laload, 1))
    (kk : ∀ v, kf v = some r → GW p l e R s m args below meth c Q (mInv D cz qm σ H0) (F0 m (pc + 1) ls (.long v :: rest))) : GW p l e R s m args below meth c Q (mInv D cz qm σ H0) (F0 m pc ls (.int i :: .ref (mad qm k) :: rest)) := by
  intro H locs cs sl hI
  have hk : k < 95 := Nat.le_of_ble_eq_true hkb
  unfold rdB at hF
  by_cases hb : inb i (mlen k) = true
  · rw [if_pos hb] at hF
    have hin := inb_in hb
    have hlt : i.toNatClampNeg < mlen k := Nat.not_le.mp fun q => hin (Or.inr q)
    have hcell := hI.1.2 k hk h2
    rw [m_all h0, h0, vp_cell_l] at hcell
    exact W.lald (v := .long (gB σ k i.toNatClampNeg)) K.hx K.hb hcell ((K.hK.2 2 _ rfl).1 _ _) (fun q => by cases q) (by rw [arrV_size]; exact hin) (by rw [arrV_read _ _ hlt]) rfl rfl d (kk _ hF H locs cs sl hI)
  · rw [if_neg hb] at hF
    cases hF
/-- behind a store into array k -/
theorem m_stored {k : Nat} {H1 : Heap} {cs sl i : Nat} (hI : mInv D cz qm σ H0 H locs cs sl) (hk : k < 95) (h2 : mkd k = 2) (he : H1[mad qm k]? = some (vp_cell (cz (mty k)) (mAr τ k))) (z : H1.size = H.size) (oq : ∀ q, q ≠ mad qm k → H1[q]? = H[q]?) (hV : ∀ j, mV qm τ j = mV qm σ j) (hAr : ∀ j, j ≠ k → mAr τ j = mAr σ j) : mInv D cz qm τ H0 H1 (locs ++ [⟨mad qm k, i⟩]) cs sl := by
  obtain ⟨⟨hO, hA⟩, hS, hc, hl⟩ := hI
  refine ⟨⟨(hO.kept (oq qm (fun q => mad_qm q.symm))).to (fun j _ => (hV j).symm), fun j hj hj2 => ?_⟩, hS.put z oq (mad_in hk), hc, hl⟩
  by_cases hjk : j = k
  · rw [hjk]; exact he
  · rw [oq _ (mad_ne hj hk hj2 h2 hjk), hAr j hjk]
    exact hA j hj hj2
theorem m_iast {α : Type} {k : Nat} {i v : Int32} {kf : MS → Option α} {r : α} (K : GX p m c cc nL s args meth D clM (tysM cz) ret RX4) (hF : wrA σ k i v kf = some r) (ha : ag w σ0 σ) (hw : w.2.1.contains k = true) (hkb : Nat.blt k 95 = true) (h2 : mkd k = 2) (h0 : mty k = 0) (d : decode cc pc = .ok (.iastore, 1))
    (kk : ∀ σ1, kf σ1 = some r → ag w σ0 σ1 → GW p l e R s m args below meth c Q (mInv D cz qm σ1 H0) (F0 m (pc + 1) ls rest)) : GW p l e R s m args below meth c Q (mInv D cz qm σ H0) (F0 m pc ls (.int v :: .int i :: .ref (mad qm k) :: rest)) := by
  intro H locs cs sl hI
  have hk : k < 95 := Nat.le_of_ble_eq_true hkb
  unfold wrA at hF
  by_cases hb : inb i (mlen k) = true
  · rw [if_pos hb] at hF
    have hin := inb_in hb
    have hcell := hI.1.2 k hk h2
    rw [m_ali (Or.inl h0), h0, vp_cell_i] at hcell
    refine W.iast K.hx K.hb hcell ((K.hK.2 0 _ rfl).1 _ _) (fun q => by cases q) (by rw [arrV_size]; exact hin) rfl rfl d fun H1 e z oq => ?_
    refine kk _ hF (ha.sA hw) H1 _ cs sl (m_stored (τ := sA σ k i.toNatClampNeg v) hI hk h2 ?_ z oq (fun j => rfl) (fun j hj => ?_))
    · rw [e, m_ali (Or.inl h0), h0, vp_cell_i, arrV_store]
      congr 2
      funext q
      by_cases hq : q = i.toNatClampNeg
      · subst hq
        simp [updV, sA, gA, up]
      · simp [updV, sA, gA, up, hq]
    · exact mAr_sA hj
  · rw [if_neg hb] at hF
    cases hF
theorem m_last {α : Type} {k : Nat} {i : Int32} {v : Int64} {kf : MS → Option α} {r : α} (K : GX p m c cc nL s args meth D clM (tysM cz) ret RX4) (hF : wrB σ k i v kf = some r) (ha : ag w σ0 σ) (hw : w.2.2.2.contains k = true) (hkb : Nat.blt k 95 = true) (h2 : mkd k = 2) (h0 : mty k = 2) (d : decode cc pc = .ok (.lastore, 1))
    (kk : ∀ σ1, kf σ1 = some r → ag w σ0 σ1 → GW p l e R s m args below meth c Q (mInv D cz qm σ1 H0) (F0 m (pc + 1) ls rest)) : GW p l e R s m args below meth c Q (mInv D cz qm σ H0) (F0 m pc ls (.long v :: .int i :: .ref (mad qm k) :: rest)) := by
  intro H locs cs sl hI
  have hk : k < 95 := Nat.le_of_ble_eq_true hkb
  unfold wrB at hF
  by_cases hb : inb i (mlen k) = true
  · rw [if_pos hb] at hF
    have hin := inb_in hb
    have hcell := hI.1.2 k hk h2
    rw [m_all h0, h0, vp_cell_l] at hcell
    refine W.last K.hx K.hb hcell ((K.hK.2 2 _ rfl).1 _ _) (fun q => by cases q) (by rw [arrV_size]; exact hin) rfl rfl d fun H1 e z oq => ?_
    refine kk _ hF (ha.sB hw) H1 _ cs sl (m_stored (τ := sB σ k i.toNatClampNeg v) hI hk h2 ?_ z oq (fun j => rfl) (fun j hj => ?_))
    · rw [e, m_all h0, h0, vp_cell_l, arrV_store]
      congr 2
      funext q
      by_cases hq : q = i.toNatClampNeg
      · subst hq
        simp [updV, sB, gB, up]
      · simp [updV, sB, gB, up, hq]
    · exact mAr_sB hj
  · rw [if_neg hb] at hF
    cases hF
theorem bz_and {v : Int32} (h : v = 0 ∨ v = 1) : v &&& 1 = v := by rcases h with h | h <;> subst h <;> rfl
theorem m_zast {α : Type} {k : Nat} {i v : Int32} {kf : MS → Option α} {r : α} (K : GX p m c cc nL s args meth D clM (tysM cz) ret RX4) (hF : wrA σ k i v kf = some r) (hz : v = 0 ∨ v = 1) (ha : ag w σ0 σ) (hw : w.2.1.contains k = true) (hkb : Nat.blt k 95 = true) (h2 : mkd k = 2) (h0 : mty k = 1) (d : decode cc pc = .ok (.bastore, 1))
    (kk : ∀ σ1, kf σ1 = some r → ag w σ0 σ1 → GW p l e R s m args below meth c Q (mInv D cz qm σ1 H0) (F0 m (pc + 1) ls rest)) : GW p l e R s m args below meth c Q (mInv D cz qm σ H0) (F0 m pc ls (.int v :: .int i :: .ref (mad qm k) :: rest)) := by
  intro H locs cs sl hI
  have hk : k < 95 := Nat.le_of_ble_eq_true hkb
  unfold wrA at hF
  by_cases hb : inb i (mlen k) = true
  · rw [if_pos hb] at hF
    have hin := inb_in hb
    have hcell := hI.1.2 k hk h2
    rw [m_ali (Or.inr h0), h0, vp_cell_i] at hcell
    refine W.zast K.hx K.hb hcell ((K.hK.2 1 _ rfl).1 _ _) (fun q => by cases q) (by rw [arrV_size]; exact hin) rfl rfl d fun H1 e z oq => ?_
    refine kk _ hF (ha.sA hw) H1 _ cs sl (m_stored (τ := sA σ k i.toNatClampNeg v) hI hk h2 ?_ z oq (fun j => rfl) (fun j hj => ?_))
    · have hnv : narrow .boolean (.int v) = .int v := by
        show Value.int (v &&& 1) = .int v
        rw [bz_and hz]
      rw [e, hnv, m_ali (Or.inr h0), h0, vp_cell_i, arrV_store]
      congr 2
      funext q
      by_cases hq : q = i.toNatClampNeg
      · subst hq
        simp [updV, sA, gA, up]
      · simp [updV, sA, gA, up, hq]
    · exact mAr_sA hj
  · rw [if_neg hb] at hF
    cases hF
theorem m_callVP {α : Type} {y : MethodName} {maxL nY dY dd index : Nat} {bytes : ByteArray} {ret2 : Option FieldType} {wY : WS} {As : List Value} {X : Option Int32} {kf : Int32 → Option α} {r : α} (K : GX p m c cc nL s args meth D clM (tysM cz) ret RX4) (h : lq ls nL lq0) (hF : bnd X kf = some r) (hM : ∀ t, X = some t → mMet l D cz qm y bytes maxL ret2 dY wY (.ref qm :: As) σ (some (.int t)) σ) (hy : y.cls = RX4) (cp : cpV y bytes maxL ret2 nY) (hq : Cond.methodLink RX4 index y ∈ lw_all) (hn : As.length = nY) (hd1 : Nat.ble (dY + 1) dd = true) (hd2 : Nat.ble maxL 41 = true) (hst : st = As.reverse ++ .ref qm :: rest) (hroom : Nat.ble (rest.map fun v => v.category).sum 8 = true) (d : decode cc pc = .ok (.invokevirtual index, 3)) (kk : ∀ t, kf t = some r → GW p l e (mRoom dd) s m args below meth c Q (mInv D cz qm σ H0) (F0 m (pc + 3) ls (.int t :: rest))) : GW p l e (mRoom dd) s m args below meth c Q (mInv D cz qm σ H0) (F0 m pc ls st) := by
  intro H locs cs sl hI
  obtain ⟨t, hX, hF⟩ := bnd_i hF
  obtain ⟨hP0, hS0, hc, hl⟩ := hI
  subst hc; subst hl
  refine m_coreV (locs := locs) K.1 K.hK (hM t hX) hy cp hq hn (m_R hd1 hd2) ⟨by omega, by omega⟩ h hst hroom d hP0 ?_
  intro H1 L hP ha hz hk hL
  exact kk t hF H1 _ 0 0 ⟨hP, m_SF hS0 hz hk hL, rfl, rfl⟩
theorem m_callVJ {α : Type} {y : MethodName} {maxL nY dY dd index : Nat} {bytes : ByteArray} {ret2 : Option FieldType} {wY : WS} {As : List Value} {X : Option Int64} {kf : Int64 → Option α} {r : α} (K : GX p m c cc nL s args meth D clM (tysM cz) ret RX4) (h : lq ls nL lq0) (hF : bnd X kf = some r) (hM : ∀ t, X = some t → mMet l D cz qm y bytes maxL ret2 dY wY (.ref qm :: As) σ (some (.long t)) σ) (hy : y.cls = RX4) (cp : cpV y bytes maxL ret2 nY) (hq : Cond.methodLink RX4 index y ∈ lw_all) (hn : As.length = nY) (hd1 : Nat.ble (dY + 1) dd = true) (hd2 : Nat.ble maxL 41 = true) (hst : st = As.reverse ++ .ref qm :: rest) (hroom : Nat.ble (rest.map fun v => v.category).sum 8 = true) (d : decode cc pc = .ok (.invokevirtual index, 3)) (kk : ∀ t, kf t = some r → GW p l e (mRoom dd) s m args below meth c Q (mInv D cz qm σ H0) (F0 m (pc + 3) ls (.long t :: rest))) : GW p l e (mRoom dd) s m args below meth c Q (mInv D cz qm σ H0) (F0 m pc ls st) := by
  intro H locs cs sl hI
  obtain ⟨t, hX, hF⟩ := bnd_i hF
  obtain ⟨hP0, hS0, hc, hl⟩ := hI
  subst hc; subst hl
  refine m_coreV (locs := locs) K.1 K.hK (hM t hX) hy cp hq hn (m_R hd1 hd2) ⟨by omega, by omega⟩ h hst hroom d hP0 ?_
  intro H1 L hP ha hz hk hL
  exact kk t hF H1 _ 0 0 ⟨hP, m_SF hS0 hz hk hL, rfl, rfl⟩
theorem m_callVW {α : Type} {y : MethodName} {maxL nY dY dd index : Nat} {bytes : ByteArray} {ret2 : Option FieldType} {wY : WS} {As : List Value} {X : Option (Int32 × MS)} {kf : Int32 → MS → Option α} {r : α} (K : GX p m c cc nL s args meth D clM (tysM cz) ret RX4) (h : lq ls nL lq0) (hF : bndW X wY σ kf = some r) (ha : ag w σ0 σ) (hw : wsub wY w = true) (hM : ∀ t, X = some t → mMet l D cz qm y bytes maxL ret2 dY wY (.ref qm :: As) σ (some (.int t.1)) t.2) (hy : y.cls = RX4) (cp : cpV y bytes maxL ret2 nY) (hq : Cond.methodLink RX4 index y ∈ lw_all) (hn : As.length = nY) (hd1 : Nat.ble (dY + 1) dd = true) (hd2 : Nat.ble maxL 41 = true) (hst : st = As.reverse ++ .ref qm :: rest) (hroom : Nat.ble (rest.map fun v => v.category).sum 8 = true) (d : decode cc pc = .ok (.invokevirtual index, 3)) (kk : ∀ t σ1, kf t σ1 = some r → ag w σ0 σ1 → GW p l e (mRoom dd) s m args below meth c Q (mInv D cz qm σ1 H0) (F0 m (pc + 3) ls (.int t :: rest))) : GW p l e (mRoom dd) s m args below meth c Q (mInv D cz qm σ H0) (F0 m pc ls st) := by
  intro H locs cs sl hI
  cases hX : X with
  | none => rw [hX] at hF; cases hF
  | some t =>
    rw [hX] at hF
    obtain ⟨hP0, hS0, hc, hl⟩ := hI
    subst hc; subst hl
    refine m_coreV (locs := locs) K.1 K.hK (hM t hX) hy cp hq hn (m_R hd1 hd2) ⟨by omega, by omega⟩ h hst hroom d hP0 ?_
    intro H1 L hP hag hz hk hL
    have hF : kf t.1 (mx wY σ t.2) = some r := hF
    rw [mx_ag hag] at hF
    exact kk t.1 t.2 hF (ha.tr hag hw) H1 _ 0 0 ⟨hP, m_SF hS0 hz hk hL, rfl, rfl⟩
theorem m_callVV {α : Type} {y : MethodName} {maxL nY dY dd index : Nat} {bytes : ByteArray} {ret2 : Option FieldType} {wY : WS} {As : List Value} {X : Option MS} {kf : MS → Option α} {r : α} (K : GX p m c cc nL s args meth D clM (tysM cz) ret RX4) (h : lq ls nL lq0) (hF : bndV X wY σ kf = some r) (ha : ag w σ0 σ) (hw : wsub wY w = true) (hM : ∀ t, X = some t → mMet l D cz qm y bytes maxL ret2 dY wY (.ref qm :: As) σ none t) (hy : y.cls = RX4) (cp : cpV y bytes maxL ret2 nY) (hq : Cond.methodLink RX4 index y ∈ lw_all) (hn : As.length = nY) (hd1 : Nat.ble (dY + 1) dd = true) (hd2 : Nat.ble maxL 41 = true) (hst : st = As.reverse ++ .ref qm :: rest) (hroom : Nat.ble (rest.map fun v => v.category).sum 8 = true) (d : decode cc pc = .ok (.invokevirtual index, 3)) (kk : ∀ σ1, kf σ1 = some r → ag w σ0 σ1 → GW p l e (mRoom dd) s m args below meth c Q (mInv D cz qm σ1 H0) (F0 m (pc + 3) ls rest)) : GW p l e (mRoom dd) s m args below meth c Q (mInv D cz qm σ H0) (F0 m pc ls st) := by
  intro H locs cs sl hI
  cases hX : X with
  | none => rw [hX] at hF; cases hF
  | some t =>
    rw [hX] at hF
    obtain ⟨hP0, hS0, hc, hl⟩ := hI
    subst hc; subst hl
    refine m_coreV (locs := locs) K.1 K.hK (hM t hX) hy cp hq hn (m_R hd1 hd2) ⟨by omega, by omega⟩ h hst hroom d hP0 ?_
    intro H1 L hP hag hz hk hL
    have hF : kf (mx wY σ t) = some r := hF
    rw [mx_ag hag] at hF
    exact kk t hF (ha.tr hag hw) H1 _ 0 0 ⟨hP, m_SF hS0 hz hk hL, rfl, rfl⟩
theorem m_callSP {α : Type} {y : MethodName} {maxL nY dY dd index : Nat} {bytes : ByteArray} {ret2 : Option FieldType} {wY : WS} {As : List Value} {X : Option Int32} {kf : Int32 → Option α} {r : α} (K : GX p m c cc nL s args meth D clM (tysM cz) ret RX4) (h : lq ls nL lq0) (hF : bnd X kf = some r) (hM : ∀ t, X = some t → mMet l D cz qm y bytes maxL ret2 dY wY (As) σ (some (.int t)) σ) (cp : cpS y bytes maxL ret2 nY) (hq : Cond.methodLink RX4 index y ∈ lw_all) (hn : As.length = nY) (hd1 : Nat.ble (dY + 1) dd = true) (hd2 : Nat.ble maxL 41 = true) (hst : st = As.reverse ++ rest) (hroom : Nat.ble (rest.map fun v => v.category).sum 8 = true) (d : decode cc pc = .ok (.invokestatic index, 3)) (kk : ∀ t, kf t = some r → GW p l e (mRoom dd) s m args below meth c Q (mInv D cz qm σ H0) (F0 m (pc + 3) ls (.int t :: rest))) : GW p l e (mRoom dd) s m args below meth c Q (mInv D cz qm σ H0) (F0 m pc ls st) := by
  intro H locs cs sl hI
  obtain ⟨t, hX, hF⟩ := bnd_i hF
  obtain ⟨hP0, hS0, hc, hl⟩ := hI
  subst hc; subst hl
  refine m_coreS (locs := locs) K.1 K.hK (hM t hX) cp hq hn (m_R hd1 hd2) ⟨by omega, by omega⟩ h hst hroom d hP0 ?_
  intro H1 L hP ha hz hk hL
  exact kk t hF H1 _ 0 0 ⟨hP, m_SF hS0 hz hk hL, rfl, rfl⟩
theorem m_callSJ {α : Type} {y : MethodName} {maxL nY dY dd index : Nat} {bytes : ByteArray} {ret2 : Option FieldType} {wY : WS} {As : List Value} {X : Option Int64} {kf : Int64 → Option α} {r : α} (K : GX p m c cc nL s args meth D clM (tysM cz) ret RX4) (h : lq ls nL lq0) (hF : bnd X kf = some r) (hM : ∀ t, X = some t → mMet l D cz qm y bytes maxL ret2 dY wY (As) σ (some (.long t)) σ) (cp : cpS y bytes maxL ret2 nY) (hq : Cond.methodLink RX4 index y ∈ lw_all) (hn : As.length = nY) (hd1 : Nat.ble (dY + 1) dd = true) (hd2 : Nat.ble maxL 41 = true) (hst : st = As.reverse ++ rest) (hroom : Nat.ble (rest.map fun v => v.category).sum 8 = true) (d : decode cc pc = .ok (.invokestatic index, 3)) (kk : ∀ t, kf t = some r → GW p l e (mRoom dd) s m args below meth c Q (mInv D cz qm σ H0) (F0 m (pc + 3) ls (.long t :: rest))) : GW p l e (mRoom dd) s m args below meth c Q (mInv D cz qm σ H0) (F0 m pc ls st) := by
  intro H locs cs sl hI
  obtain ⟨t, hX, hF⟩ := bnd_i hF
  obtain ⟨hP0, hS0, hc, hl⟩ := hI
  subst hc; subst hl
  refine m_coreS (locs := locs) K.1 K.hK (hM t hX) cp hq hn (m_R hd1 hd2) ⟨by omega, by omega⟩ h hst hroom d hP0 ?_
  intro H1 L hP ha hz hk hL
  exact kk t hF H1 _ 0 0 ⟨hP, m_SF hS0 hz hk hL, rfl, rfl⟩
theorem m_callSW {α : Type} {y : MethodName} {maxL nY dY dd index : Nat} {bytes : ByteArray} {ret2 : Option FieldType} {wY : WS} {As : List Value} {X : Option (Int32 × MS)} {kf : Int32 → MS → Option α} {r : α} (K : GX p m c cc nL s args meth D clM (tysM cz) ret RX4) (h : lq ls nL lq0) (hF : bndW X wY σ kf = some r) (ha : ag w σ0 σ) (hw : wsub wY w = true) (hM : ∀ t, X = some t → mMet l D cz qm y bytes maxL ret2 dY wY (As) σ (some (.int t.1)) t.2) (cp : cpS y bytes maxL ret2 nY) (hq : Cond.methodLink RX4 index y ∈ lw_all) (hn : As.length = nY) (hd1 : Nat.ble (dY + 1) dd = true) (hd2 : Nat.ble maxL 41 = true) (hst : st = As.reverse ++ rest) (hroom : Nat.ble (rest.map fun v => v.category).sum 8 = true) (d : decode cc pc = .ok (.invokestatic index, 3)) (kk : ∀ t σ1, kf t σ1 = some r → ag w σ0 σ1 → GW p l e (mRoom dd) s m args below meth c Q (mInv D cz qm σ1 H0) (F0 m (pc + 3) ls (.int t :: rest))) : GW p l e (mRoom dd) s m args below meth c Q (mInv D cz qm σ H0) (F0 m pc ls st) := by
  intro H locs cs sl hI
  cases hX : X with
  | none => rw [hX] at hF; cases hF
  | some t =>
    rw [hX] at hF
    obtain ⟨hP0, hS0, hc, hl⟩ := hI
    subst hc; subst hl
    refine m_coreS (locs := locs) K.1 K.hK (hM t hX) cp hq hn (m_R hd1 hd2) ⟨by omega, by omega⟩ h hst hroom d hP0 ?_
    intro H1 L hP hag hz hk hL
    have hF : kf t.1 (mx wY σ t.2) = some r := hF
    rw [mx_ag hag] at hF
    exact kk t.1 t.2 hF (ha.tr hag hw) H1 _ 0 0 ⟨hP, m_SF hS0 hz hk hL, rfl, rfl⟩
theorem m_callSV {α : Type} {y : MethodName} {maxL nY dY dd index : Nat} {bytes : ByteArray} {ret2 : Option FieldType} {wY : WS} {As : List Value} {X : Option MS} {kf : MS → Option α} {r : α} (K : GX p m c cc nL s args meth D clM (tysM cz) ret RX4) (h : lq ls nL lq0) (hF : bndV X wY σ kf = some r) (ha : ag w σ0 σ) (hw : wsub wY w = true) (hM : ∀ t, X = some t → mMet l D cz qm y bytes maxL ret2 dY wY (As) σ none t) (cp : cpS y bytes maxL ret2 nY) (hq : Cond.methodLink RX4 index y ∈ lw_all) (hn : As.length = nY) (hd1 : Nat.ble (dY + 1) dd = true) (hd2 : Nat.ble maxL 41 = true) (hst : st = As.reverse ++ rest) (hroom : Nat.ble (rest.map fun v => v.category).sum 8 = true) (d : decode cc pc = .ok (.invokestatic index, 3)) (kk : ∀ σ1, kf σ1 = some r → ag w σ0 σ1 → GW p l e (mRoom dd) s m args below meth c Q (mInv D cz qm σ1 H0) (F0 m (pc + 3) ls rest)) : GW p l e (mRoom dd) s m args below meth c Q (mInv D cz qm σ H0) (F0 m pc ls st) := by
  intro H locs cs sl hI
  cases hX : X with
  | none => rw [hX] at hF; cases hF
  | some t =>
    rw [hX] at hF
    obtain ⟨hP0, hS0, hc, hl⟩ := hI
    subst hc; subst hl
    refine m_coreS (locs := locs) K.1 K.hK (hM t hX) cp hq hn (m_R hd1 hd2) ⟨by omega, by omega⟩ h hst hroom d hP0 ?_
    intro H1 L hP hag hz hk hL
    have hF : kf (mx wY σ t) = some r := hF
    rw [mx_ag hag] at hF
    exact kk t hF (ha.tr hag hw) H1 _ 0 0 ⟨hP, m_SF hS0 hz hk hL, rfl, rfl⟩
theorem m_iretP {v r : Int32} (K : GX p m c cc nL s args meth D clM (tysM cz) (some .int) RX4) (hF : some v = some r) (ha : ag w σ0 σ) (d : decode cc pc = .ok (.ireturn, 1)) : GW p l e R s m args below meth c (MQ below (mQ D cz qm w σ0 (some (.int r)) σ) args s 0 0 (mA qm)) (mInv D cz qm σ s.heap) (F0 m pc ls [.int v]) := by
  cases hF
  intro H locs cs sl hI
  obtain ⟨hP, hS, hc, hl⟩ := hI
  subst hc; subst hl
  exact W.iret K.hx K.hb K.hr (fun t ht hW => ⟨rfl, by rw [ht]; exact hP, ha, hS.F ht⟩) hS.2.2 d K.hlk
theorem m_iretW {v : Int32} {r : Int32 × MS} (K : GX p m c cc nL s args meth D clM (tysM cz) (some .int) RX4) (hF : some (v, σ) = some r) (ha : ag w σ0 σ) (d : decode cc pc = .ok (.ireturn, 1)) : GW p l e R s m args below meth c (MQ below (mQ D cz qm w σ0 (some (.int r.1)) r.2) args s 0 0 (mA qm)) (mInv D cz qm σ s.heap) (F0 m pc ls [.int v]) := by
  cases hF
  intro H locs cs sl hI
  obtain ⟨hP, hS, hc, hl⟩ := hI
  subst hc; subst hl
  exact W.iret K.hx K.hb K.hr (fun t ht hW => ⟨rfl, by rw [ht]; exact hP, ha, hS.F ht⟩) hS.2.2 d K.hlk
theorem m_lretP {v r : Int64} (K : GX p m c cc nL s args meth D clM (tysM cz) (some .long) RX4) (hF : some v = some r) (ha : ag w σ0 σ) (d : decode cc pc = .ok (.lreturn, 1)) : GW p l e R s m args below meth c (MQ below (mQ D cz qm w σ0 (some (.long r)) σ) args s 0 0 (mA qm)) (mInv D cz qm σ s.heap) (F0 m pc ls [.long v]) := by
  cases hF
  intro H locs cs sl hI
  obtain ⟨hP, hS, hc, hl⟩ := hI
  subst hc; subst hl
  exact W.lret K.hx K.hb K.hr (fun t ht hW => ⟨rfl, by rw [ht]; exact hP, ha, hS.F ht⟩) hS.2.2 d K.hlk
theorem m_lretW {v : Int64} {r : Int64 × MS} (K : GX p m c cc nL s args meth D clM (tysM cz) (some .long) RX4) (hF : some (v, σ) = some r) (ha : ag w σ0 σ) (d : decode cc pc = .ok (.lreturn, 1)) : GW p l e R s m args below meth c (MQ below (mQ D cz qm w σ0 (some (.long r.1)) r.2) args s 0 0 (mA qm)) (mInv D cz qm σ s.heap) (F0 m pc ls [.long v]) := by
  cases hF
  intro H locs cs sl hI
  obtain ⟨hP, hS, hc, hl⟩ := hI
  subst hc; subst hl
  exact W.lret K.hx K.hb K.hr (fun t ht hW => ⟨rfl, by rw [ht]; exact hP, ha, hS.F ht⟩) hS.2.2 d K.hlk
theorem m_zretP {v r : Int32} (K : GX p m c cc nL s args meth D clM (tysM cz) (some .boolean) RX4) (hF : some v = some r) (hz : v = 0 ∨ v = 1) (ha : ag w σ0 σ) (d : decode cc pc = .ok (.ireturn, 1)) : GW p l e R s m args below meth c (MQ below (mQ D cz qm w σ0 (some (.int r)) σ) args s 0 0 (mA qm)) (mInv D cz qm σ s.heap) (F0 m pc ls [.int v]) := by
  cases hF
  intro H locs cs sl hI
  obtain ⟨hP, hS, hc, hl⟩ := hI
  subst hc; subst hl
  exact W.zret K.hx K.hb K.hr (show narrow .boolean (.int v) = .int v by show Value.int (v &&& 1) = .int v; rw [bz_and hz]) (fun t ht hW => ⟨rfl, by rw [ht]; exact hP, ha, hS.F ht⟩) hS.2.2 d K.hlk
theorem m_zretW {v : Int32} {r : Int32 × MS} (K : GX p m c cc nL s args meth D clM (tysM cz) (some .boolean) RX4) (hF : some (v, σ) = some r) (hz : v = 0 ∨ v = 1) (ha : ag w σ0 σ) (d : decode cc pc = .ok (.ireturn, 1)) : GW p l e R s m args below meth c (MQ below (mQ D cz qm w σ0 (some (.int r.1)) r.2) args s 0 0 (mA qm)) (mInv D cz qm σ s.heap) (F0 m pc ls [.int v]) := by
  cases hF
  intro H locs cs sl hI
  obtain ⟨hP, hS, hc, hl⟩ := hI
  subst hc; subst hl
  exact W.zret K.hx K.hb K.hr (show narrow .boolean (.int v) = .int v by show Value.int (v &&& 1) = .int v; rw [bz_and hz]) (fun t ht hW => ⟨rfl, by rw [ht]; exact hP, ha, hS.F ht⟩) hS.2.2 d K.hlk
theorem m_vretV {r : MS} (K : GX p m c cc nL s args meth D clM (tysM cz) none RX4) (hF : some σ = some r) (ha : ag w σ0 σ) (d : decode cc pc = .ok (.return_, 1)) : GW p l e R s m args below meth c (MQ below (mQ D cz qm w σ0 none r) args s 0 0 (mA qm)) (mInv D cz qm σ s.heap) (F0 m pc ls []) := by
  cases hF
  intro H locs cs sl hI
  obtain ⟨hP, hS, hc, hl⟩ := hI
  subst hc; subst hl
  exact W.vret K.hx K.hb K.hr (fun t ht hW => ⟨rfl, by rw [ht]; exact hP, ha, hS.F ht⟩) hS.2.2 d K.hlk
end MRows
section FRows
variable {p : Program} {l : Launch} {e : Env} {R : Room} {s : State} {m : MethodId} {args : Array Value} {below : List Frame} {meth : Method} {c : Code} {Q : State → Prop} {cc : ByteArray} {nL : Nat} {D : va_G} {cz : Nat → ClassId} {qm : Nat} {ret : Option FieldType} {ls : Array Slot} {pc : Nat} {rest : List Value} {w : WS} {σ σ0 : MS} {H0 : Heap} {α : Type} {r : α}
theorem mfl_0 : Cond.fieldLink RX4 7 (TX4 0).1 (TX4 0).2.1 (TX4 0).2.2.1 ∈ lw_all := q1506
theorem mget_0 (K : GX p m c cc nL s args meth D clM (tysM cz) ret RX4) (d : decode cc pc = .ok (.getfield 7, 3)) (kk : GW p l e R s m args below meth c Q (mInv D cz qm σ H0) (F0 m (pc + 3) ls (.ref (mad qm 0) :: rest))) : GW p l e R s m args below meth c Q (mInv D cz qm σ H0) (F0 m pc ls (.ref qm :: rest)) := m_get (k := 0) K rfl mfl_0 rfl d kk
theorem mld_0 {i : Int32} {kf : Int32 → Option α} (K : GX p m c cc nL s args meth D clM (tysM cz) ret RX4) (hF : rdA σ 0 i kf = some r) (d : decode cc pc = .ok (.iaload, 1)) (kk : ∀ v, kf v = some r → GW p l e R s m args below meth c Q (mInv D cz qm σ H0) (F0 m (pc + 1) ls (.int v :: rest))) : GW p l e R s m args below meth c Q (mInv D cz qm σ H0) (F0 m pc ls (.int i :: .ref (mad qm 0) :: rest)) := m_iald K hF rfl rfl rfl d kk
theorem mst_0 {i : Int32} {v : Int32} {kf : MS → Option α} (K : GX p m c cc nL s args meth D clM (tysM cz) ret RX4) (hF : wrA σ 0 i v kf = some r) (ha : ag w σ0 σ) (hw : w.2.1.contains 0 = true) (d : decode cc pc = .ok (.iastore, 1)) (kk : ∀ σ1, kf σ1 = some r → ag w σ0 σ1 → GW p l e R s m args below meth c Q (mInv D cz qm σ1 H0) (F0 m (pc + 1) ls (rest))) : GW p l e R s m args below meth c Q (mInv D cz qm σ H0) (F0 m pc ls (.int v :: .int i :: .ref (mad qm 0) :: rest)) := m_iast K hF ha hw rfl rfl rfl d kk
theorem mfl_1 : Cond.fieldLink RX4 184 (TX4 1).1 (TX4 1).2.1 (TX4 1).2.2.1 ∈ lw_all := q1507
theorem mget_1 (K : GX p m c cc nL s args meth D clM (tysM cz) ret RX4) (d : decode cc pc = .ok (.getfield 184, 3)) (kk : GW p l e R s m args below meth c Q (mInv D cz qm σ H0) (F0 m (pc + 3) ls (.int (gI σ 1) :: rest))) : GW p l e R s m args below meth c Q (mInv D cz qm σ H0) (F0 m pc ls (.ref qm :: rest)) := m_get (k := 1) K rfl mfl_1 rfl d kk
theorem mput_1 {v : Int32} {kf : MS → Option α} (K : GX p m c cc nL s args meth D clM (tysM cz) ret RX4) (hF : vlS (sI σ 1 v) kf = some r) (ha : ag w σ0 σ) (hw : w.1.contains 1 = true) (d : decode cc pc = .ok (.putfield 184, 3)) (kk : ∀ σ1, kf σ1 = some r → ag w σ0 σ1 → GW p l e R s m args below meth c Q (mInv D cz qm σ1 H0) (F0 m (pc + 3) ls (rest))) : GW p l e R s m args below meth c Q (mInv D cz qm σ H0) (F0 m pc ls (.int v :: .ref qm :: rest)) := m_putI (ty := .int) K hF ha hw rfl rfl mfl_1 rfl rfl rfl rfl d kk
theorem mfl_2 : Cond.fieldLink RX4 224 (TX4 2).1 (TX4 2).2.1 (TX4 2).2.2.1 ∈ lw_all := q1508
theorem mget_2 (K : GX p m c cc nL s args meth D clM (tysM cz) ret RX4) (d : decode cc pc = .ok (.getfield 224, 3)) (kk : GW p l e R s m args below meth c Q (mInv D cz qm σ H0) (F0 m (pc + 3) ls (.int (gI σ 2) :: rest))) : GW p l e R s m args below meth c Q (mInv D cz qm σ H0) (F0 m pc ls (.ref qm :: rest)) := m_get (k := 2) K rfl mfl_2 rfl d kk
theorem mput_2 {v : Int32} {kf : MS → Option α} (K : GX p m c cc nL s args meth D clM (tysM cz) ret RX4) (hF : vlS (sI σ 2 v) kf = some r) (ha : ag w σ0 σ) (hw : w.1.contains 2 = true) (d : decode cc pc = .ok (.putfield 224, 3)) (kk : ∀ σ1, kf σ1 = some r → ag w σ0 σ1 → GW p l e R s m args below meth c Q (mInv D cz qm σ1 H0) (F0 m (pc + 3) ls (rest))) : GW p l e R s m args below meth c Q (mInv D cz qm σ H0) (F0 m pc ls (.int v :: .ref qm :: rest)) := m_putI (ty := .int) K hF ha hw rfl rfl mfl_2 rfl rfl rfl rfl d kk
theorem mfl_3 : Cond.fieldLink RX4 13 (TX4 3).1 (TX4 3).2.1 (TX4 3).2.2.1 ∈ lw_all := q1509
theorem mget_3 (K : GX p m c cc nL s args meth D clM (tysM cz) ret RX4) (d : decode cc pc = .ok (.getfield 13, 3)) (kk : GW p l e R s m args below meth c Q (mInv D cz qm σ H0) (F0 m (pc + 3) ls (.int (gI σ 3) :: rest))) : GW p l e R s m args below meth c Q (mInv D cz qm σ H0) (F0 m pc ls (.ref qm :: rest)) := m_get (k := 3) K rfl mfl_3 rfl d kk
theorem mput_3 {v : Int32} {kf : MS → Option α} (K : GX p m c cc nL s args meth D clM (tysM cz) ret RX4) (hF : vlS (sI σ 3 v) kf = some r) (ha : ag w σ0 σ) (hw : w.1.contains 3 = true) (d : decode cc pc = .ok (.putfield 13, 3)) (kk : ∀ σ1, kf σ1 = some r → ag w σ0 σ1 → GW p l e R s m args below meth c Q (mInv D cz qm σ1 H0) (F0 m (pc + 3) ls (rest))) : GW p l e R s m args below meth c Q (mInv D cz qm σ H0) (F0 m pc ls (.int v :: .ref qm :: rest)) := m_putI (ty := .int) K hF ha hw rfl rfl mfl_3 rfl rfl rfl rfl d kk
theorem mfl_4 : Cond.fieldLink RX4 191 (TX4 4).1 (TX4 4).2.1 (TX4 4).2.2.1 ∈ lw_all := q1510
theorem mget_4 (K : GX p m c cc nL s args meth D clM (tysM cz) ret RX4) (d : decode cc pc = .ok (.getfield 191, 3)) (kk : GW p l e R s m args below meth c Q (mInv D cz qm σ H0) (F0 m (pc + 3) ls (.int (gI σ 4) :: rest))) : GW p l e R s m args below meth c Q (mInv D cz qm σ H0) (F0 m pc ls (.ref qm :: rest)) := m_get (k := 4) K rfl mfl_4 rfl d kk
theorem mput_4 {v : Int32} {kf : MS → Option α} (K : GX p m c cc nL s args meth D clM (tysM cz) ret RX4) (hF : vlS (sI σ 4 v) kf = some r) (ha : ag w σ0 σ) (hw : w.1.contains 4 = true) (d : decode cc pc = .ok (.putfield 191, 3)) (kk : ∀ σ1, kf σ1 = some r → ag w σ0 σ1 → GW p l e R s m args below meth c Q (mInv D cz qm σ1 H0) (F0 m (pc + 3) ls (rest))) : GW p l e R s m args below meth c Q (mInv D cz qm σ H0) (F0 m pc ls (.int v :: .ref qm :: rest)) := m_putI (ty := .int) K hF ha hw rfl rfl mfl_4 rfl rfl rfl rfl d kk
theorem mfl_5 : Cond.fieldLink RX4 194 (TX4 5).1 (TX4 5).2.1 (TX4 5).2.2.1 ∈ lw_all := q1511
theorem mget_5 (K : GX p m c cc nL s args meth D clM (tysM cz) ret RX4) (d : decode cc pc = .ok (.getfield 194, 3)) (kk : GW p l e R s m args below meth c Q (mInv D cz qm σ H0) (F0 m (pc + 3) ls (.int (gI σ 5) :: rest))) : GW p l e R s m args below meth c Q (mInv D cz qm σ H0) (F0 m pc ls (.ref qm :: rest)) := m_get (k := 5) K rfl mfl_5 rfl d kk
theorem mput_5 {v : Int32} {kf : MS → Option α} (K : GX p m c cc nL s args meth D clM (tysM cz) ret RX4) (hF : vlS (sI σ 5 v) kf = some r) (ha : ag w σ0 σ) (hw : w.1.contains 5 = true) (d : decode cc pc = .ok (.putfield 194, 3)) (kk : ∀ σ1, kf σ1 = some r → ag w σ0 σ1 → GW p l e R s m args below meth c Q (mInv D cz qm σ1 H0) (F0 m (pc + 3) ls (rest))) : GW p l e R s m args below meth c Q (mInv D cz qm σ H0) (F0 m pc ls (.int v :: .ref qm :: rest)) := m_putI (ty := .int) K hF ha hw rfl rfl mfl_5 rfl rfl rfl rfl d kk
theorem mfl_6 : Cond.fieldLink RX4 211 (TX4 6).1 (TX4 6).2.1 (TX4 6).2.2.1 ∈ lw_all := q1512
theorem mget_6 (K : GX p m c cc nL s args meth D clM (tysM cz) ret RX4) (d : decode cc pc = .ok (.getfield 211, 3)) (kk : GW p l e R s m args below meth c Q (mInv D cz qm σ H0) (F0 m (pc + 3) ls (.int (gI σ 6) :: rest))) : GW p l e R s m args below meth c Q (mInv D cz qm σ H0) (F0 m pc ls (.ref qm :: rest)) := m_get (k := 6) K rfl mfl_6 rfl d kk
theorem mput_6 {v : Int32} {kf : MS → Option α} (K : GX p m c cc nL s args meth D clM (tysM cz) ret RX4) (hF : vlS (sI σ 6 v) kf = some r) (ha : ag w σ0 σ) (hw : w.1.contains 6 = true) (d : decode cc pc = .ok (.putfield 211, 3)) (kk : ∀ σ1, kf σ1 = some r → ag w σ0 σ1 → GW p l e R s m args below meth c Q (mInv D cz qm σ1 H0) (F0 m (pc + 3) ls (rest))) : GW p l e R s m args below meth c Q (mInv D cz qm σ H0) (F0 m pc ls (.int v :: .ref qm :: rest)) := m_putI (ty := .int) K hF ha hw rfl rfl mfl_6 rfl rfl rfl rfl d kk
theorem mfl_7 : Cond.fieldLink RX4 201 (TX4 7).1 (TX4 7).2.1 (TX4 7).2.2.1 ∈ lw_all := q1513
theorem mget_7 (K : GX p m c cc nL s args meth D clM (tysM cz) ret RX4) (d : decode cc pc = .ok (.getfield 201, 3)) (kk : GW p l e R s m args below meth c Q (mInv D cz qm σ H0) (F0 m (pc + 3) ls (.int (gI σ 7) :: rest))) : GW p l e R s m args below meth c Q (mInv D cz qm σ H0) (F0 m pc ls (.ref qm :: rest)) := m_get (k := 7) K rfl mfl_7 rfl d kk
theorem mput_7 {v : Int32} {kf : MS → Option α} (K : GX p m c cc nL s args meth D clM (tysM cz) ret RX4) (hF : vlS (sI σ 7 v) kf = some r) (ha : ag w σ0 σ) (hw : w.1.contains 7 = true) (d : decode cc pc = .ok (.putfield 201, 3)) (kk : ∀ σ1, kf σ1 = some r → ag w σ0 σ1 → GW p l e R s m args below meth c Q (mInv D cz qm σ1 H0) (F0 m (pc + 3) ls (rest))) : GW p l e R s m args below meth c Q (mInv D cz qm σ H0) (F0 m pc ls (.int v :: .ref qm :: rest)) := m_putI (ty := .int) K hF ha hw rfl rfl mfl_7 rfl rfl rfl rfl d kk
theorem mfl_8 : Cond.fieldLink RX4 208 (TX4 8).1 (TX4 8).2.1 (TX4 8).2.2.1 ∈ lw_all := q1514
theorem mget_8 (K : GX p m c cc nL s args meth D clM (tysM cz) ret RX4) (d : decode cc pc = .ok (.getfield 208, 3)) (kk : GW p l e R s m args below meth c Q (mInv D cz qm σ H0) (F0 m (pc + 3) ls (.int (gI σ 8) :: rest))) : GW p l e R s m args below meth c Q (mInv D cz qm σ H0) (F0 m pc ls (.ref qm :: rest)) := m_get (k := 8) K rfl mfl_8 rfl d kk
theorem mput_8 {v : Int32} {kf : MS → Option α} (K : GX p m c cc nL s args meth D clM (tysM cz) ret RX4) (hF : vlS (sI σ 8 v) kf = some r) (ha : ag w σ0 σ) (hw : w.1.contains 8 = true) (d : decode cc pc = .ok (.putfield 208, 3)) (kk : ∀ σ1, kf σ1 = some r → ag w σ0 σ1 → GW p l e R s m args below meth c Q (mInv D cz qm σ1 H0) (F0 m (pc + 3) ls (rest))) : GW p l e R s m args below meth c Q (mInv D cz qm σ H0) (F0 m pc ls (.int v :: .ref qm :: rest)) := m_putI (ty := .int) K hF ha hw rfl rfl mfl_8 rfl rfl rfl rfl d kk
theorem mfl_9 : Cond.fieldLink RX4 204 (TX4 9).1 (TX4 9).2.1 (TX4 9).2.2.1 ∈ lw_all := q1515
theorem mget_9 (K : GX p m c cc nL s args meth D clM (tysM cz) ret RX4) (d : decode cc pc = .ok (.getfield 204, 3)) (kk : GW p l e R s m args below meth c Q (mInv D cz qm σ H0) (F0 m (pc + 3) ls (.long (gL σ 9) :: rest))) : GW p l e R s m args below meth c Q (mInv D cz qm σ H0) (F0 m pc ls (.ref qm :: rest)) := m_get (k := 9) K rfl mfl_9 rfl d kk
theorem mput_9 {v : Int64} {kf : MS → Option α} (K : GX p m c cc nL s args meth D clM (tysM cz) ret RX4) (hF : vlS (sL σ 9 v) kf = some r) (ha : ag w σ0 σ) (hw : w.2.2.1.contains 9 = true) (d : decode cc pc = .ok (.putfield 204, 3)) (kk : ∀ σ1, kf σ1 = some r → ag w σ0 σ1 → GW p l e R s m args below meth c Q (mInv D cz qm σ1 H0) (F0 m (pc + 3) ls (rest))) : GW p l e R s m args below meth c Q (mInv D cz qm σ H0) (F0 m pc ls (.long v :: .ref qm :: rest)) := m_putL K hF ha hw rfl rfl mfl_9 rfl rfl d kk
theorem mfl_10 : Cond.fieldLink RX4 17 (TX4 10).1 (TX4 10).2.1 (TX4 10).2.2.1 ∈ lw_all := q1516
theorem mget_10 (K : GX p m c cc nL s args meth D clM (tysM cz) ret RX4) (d : decode cc pc = .ok (.getfield 17, 3)) (kk : GW p l e R s m args below meth c Q (mInv D cz qm σ H0) (F0 m (pc + 3) ls (.ref (mad qm 10) :: rest))) : GW p l e R s m args below meth c Q (mInv D cz qm σ H0) (F0 m pc ls (.ref qm :: rest)) := m_get (k := 10) K rfl mfl_10 rfl d kk
theorem mld_10 {i : Int32} {kf : Int32 → Option α} (K : GX p m c cc nL s args meth D clM (tysM cz) ret RX4) (hF : rdA σ 10 i kf = some r) (d : decode cc pc = .ok (.iaload, 1)) (kk : ∀ v, kf v = some r → GW p l e R s m args below meth c Q (mInv D cz qm σ H0) (F0 m (pc + 1) ls (.int v :: rest))) : GW p l e R s m args below meth c Q (mInv D cz qm σ H0) (F0 m pc ls (.int i :: .ref (mad qm 10) :: rest)) := m_iald K hF rfl rfl rfl d kk
theorem mst_10 {i : Int32} {v : Int32} {kf : MS → Option α} (K : GX p m c cc nL s args meth D clM (tysM cz) ret RX4) (hF : wrA σ 10 i v kf = some r) (ha : ag w σ0 σ) (hw : w.2.1.contains 10 = true) (d : decode cc pc = .ok (.iastore, 1)) (kk : ∀ σ1, kf σ1 = some r → ag w σ0 σ1 → GW p l e R s m args below meth c Q (mInv D cz qm σ1 H0) (F0 m (pc + 1) ls (rest))) : GW p l e R s m args below meth c Q (mInv D cz qm σ H0) (F0 m pc ls (.int v :: .int i :: .ref (mad qm 10) :: rest)) := m_iast K hF ha hw rfl rfl rfl d kk
theorem mfl_11 : Cond.fieldLink RX4 20 (TX4 11).1 (TX4 11).2.1 (TX4 11).2.2.1 ∈ lw_all := q1517
theorem mget_11 (K : GX p m c cc nL s args meth D clM (tysM cz) ret RX4) (d : decode cc pc = .ok (.getfield 20, 3)) (kk : GW p l e R s m args below meth c Q (mInv D cz qm σ H0) (F0 m (pc + 3) ls (.ref (mad qm 11) :: rest))) : GW p l e R s m args below meth c Q (mInv D cz qm σ H0) (F0 m pc ls (.ref qm :: rest)) := m_get (k := 11) K rfl mfl_11 rfl d kk
theorem mld_11 {i : Int32} {kf : Int32 → Option α} (K : GX p m c cc nL s args meth D clM (tysM cz) ret RX4) (hF : rdA σ 11 i kf = some r) (d : decode cc pc = .ok (.iaload, 1)) (kk : ∀ v, kf v = some r → GW p l e R s m args below meth c Q (mInv D cz qm σ H0) (F0 m (pc + 1) ls (.int v :: rest))) : GW p l e R s m args below meth c Q (mInv D cz qm σ H0) (F0 m pc ls (.int i :: .ref (mad qm 11) :: rest)) := m_iald K hF rfl rfl rfl d kk
theorem mst_11 {i : Int32} {v : Int32} {kf : MS → Option α} (K : GX p m c cc nL s args meth D clM (tysM cz) ret RX4) (hF : wrA σ 11 i v kf = some r) (ha : ag w σ0 σ) (hw : w.2.1.contains 11 = true) (d : decode cc pc = .ok (.iastore, 1)) (kk : ∀ σ1, kf σ1 = some r → ag w σ0 σ1 → GW p l e R s m args below meth c Q (mInv D cz qm σ1 H0) (F0 m (pc + 1) ls (rest))) : GW p l e R s m args below meth c Q (mInv D cz qm σ H0) (F0 m pc ls (.int v :: .int i :: .ref (mad qm 11) :: rest)) := m_iast K hF ha hw rfl rfl rfl d kk
theorem mfl_12 : Cond.fieldLink RX4 23 (TX4 12).1 (TX4 12).2.1 (TX4 12).2.2.1 ∈ lw_all := q1518
theorem mget_12 (K : GX p m c cc nL s args meth D clM (tysM cz) ret RX4) (d : decode cc pc = .ok (.getfield 23, 3)) (kk : GW p l e R s m args below meth c Q (mInv D cz qm σ H0) (F0 m (pc + 3) ls (.ref (mad qm 12) :: rest))) : GW p l e R s m args below meth c Q (mInv D cz qm σ H0) (F0 m pc ls (.ref qm :: rest)) := m_get (k := 12) K rfl mfl_12 rfl d kk
theorem mld_12 {i : Int32} {kf : Int32 → Option α} (K : GX p m c cc nL s args meth D clM (tysM cz) ret RX4) (hF : rdA σ 12 i kf = some r) (d : decode cc pc = .ok (.iaload, 1)) (kk : ∀ v, kf v = some r → GW p l e R s m args below meth c Q (mInv D cz qm σ H0) (F0 m (pc + 1) ls (.int v :: rest))) : GW p l e R s m args below meth c Q (mInv D cz qm σ H0) (F0 m pc ls (.int i :: .ref (mad qm 12) :: rest)) := m_iald K hF rfl rfl rfl d kk
theorem mst_12 {i : Int32} {v : Int32} {kf : MS → Option α} (K : GX p m c cc nL s args meth D clM (tysM cz) ret RX4) (hF : wrA σ 12 i v kf = some r) (ha : ag w σ0 σ) (hw : w.2.1.contains 12 = true) (d : decode cc pc = .ok (.iastore, 1)) (kk : ∀ σ1, kf σ1 = some r → ag w σ0 σ1 → GW p l e R s m args below meth c Q (mInv D cz qm σ1 H0) (F0 m (pc + 1) ls (rest))) : GW p l e R s m args below meth c Q (mInv D cz qm σ H0) (F0 m pc ls (.int v :: .int i :: .ref (mad qm 12) :: rest)) := m_iast K hF ha hw rfl rfl rfl d kk
theorem mfl_13 : Cond.fieldLink RX4 26 (TX4 13).1 (TX4 13).2.1 (TX4 13).2.2.1 ∈ lw_all := q1519
theorem mget_13 (K : GX p m c cc nL s args meth D clM (tysM cz) ret RX4) (d : decode cc pc = .ok (.getfield 26, 3)) (kk : GW p l e R s m args below meth c Q (mInv D cz qm σ H0) (F0 m (pc + 3) ls (.ref (mad qm 13) :: rest))) : GW p l e R s m args below meth c Q (mInv D cz qm σ H0) (F0 m pc ls (.ref qm :: rest)) := m_get (k := 13) K rfl mfl_13 rfl d kk
theorem mld_13 {i : Int32} {kf : Int32 → Option α} (K : GX p m c cc nL s args meth D clM (tysM cz) ret RX4) (hF : rdA σ 13 i kf = some r) (d : decode cc pc = .ok (.iaload, 1)) (kk : ∀ v, kf v = some r → GW p l e R s m args below meth c Q (mInv D cz qm σ H0) (F0 m (pc + 1) ls (.int v :: rest))) : GW p l e R s m args below meth c Q (mInv D cz qm σ H0) (F0 m pc ls (.int i :: .ref (mad qm 13) :: rest)) := m_iald K hF rfl rfl rfl d kk
theorem mst_13 {i : Int32} {v : Int32} {kf : MS → Option α} (K : GX p m c cc nL s args meth D clM (tysM cz) ret RX4) (hF : wrA σ 13 i v kf = some r) (ha : ag w σ0 σ) (hw : w.2.1.contains 13 = true) (d : decode cc pc = .ok (.iastore, 1)) (kk : ∀ σ1, kf σ1 = some r → ag w σ0 σ1 → GW p l e R s m args below meth c Q (mInv D cz qm σ1 H0) (F0 m (pc + 1) ls (rest))) : GW p l e R s m args below meth c Q (mInv D cz qm σ H0) (F0 m pc ls (.int v :: .int i :: .ref (mad qm 13) :: rest)) := m_iast K hF ha hw rfl rfl rfl d kk
theorem mfl_14 : Cond.fieldLink RX4 29 (TX4 14).1 (TX4 14).2.1 (TX4 14).2.2.1 ∈ lw_all := q1520
theorem mget_14 (K : GX p m c cc nL s args meth D clM (tysM cz) ret RX4) (d : decode cc pc = .ok (.getfield 29, 3)) (kk : GW p l e R s m args below meth c Q (mInv D cz qm σ H0) (F0 m (pc + 3) ls (.ref (mad qm 14) :: rest))) : GW p l e R s m args below meth c Q (mInv D cz qm σ H0) (F0 m pc ls (.ref qm :: rest)) := m_get (k := 14) K rfl mfl_14 rfl d kk
theorem mld_14 {i : Int32} {kf : Int32 → Option α} (K : GX p m c cc nL s args meth D clM (tysM cz) ret RX4) (hF : rdA σ 14 i kf = some r) (d : decode cc pc = .ok (.iaload, 1)) (kk : ∀ v, kf v = some r → GW p l e R s m args below meth c Q (mInv D cz qm σ H0) (F0 m (pc + 1) ls (.int v :: rest))) : GW p l e R s m args below meth c Q (mInv D cz qm σ H0) (F0 m pc ls (.int i :: .ref (mad qm 14) :: rest)) := m_iald K hF rfl rfl rfl d kk
theorem mst_14 {i : Int32} {v : Int32} {kf : MS → Option α} (K : GX p m c cc nL s args meth D clM (tysM cz) ret RX4) (hF : wrA σ 14 i v kf = some r) (ha : ag w σ0 σ) (hw : w.2.1.contains 14 = true) (d : decode cc pc = .ok (.iastore, 1)) (kk : ∀ σ1, kf σ1 = some r → ag w σ0 σ1 → GW p l e R s m args below meth c Q (mInv D cz qm σ1 H0) (F0 m (pc + 1) ls (rest))) : GW p l e R s m args below meth c Q (mInv D cz qm σ H0) (F0 m pc ls (.int v :: .int i :: .ref (mad qm 14) :: rest)) := m_iast K hF ha hw rfl rfl rfl d kk
theorem mfl_15 : Cond.fieldLink RX4 32 (TX4 15).1 (TX4 15).2.1 (TX4 15).2.2.1 ∈ lw_all := q1521
theorem mget_15 (K : GX p m c cc nL s args meth D clM (tysM cz) ret RX4) (d : decode cc pc = .ok (.getfield 32, 3)) (kk : GW p l e R s m args below meth c Q (mInv D cz qm σ H0) (F0 m (pc + 3) ls (.ref (mad qm 15) :: rest))) : GW p l e R s m args below meth c Q (mInv D cz qm σ H0) (F0 m pc ls (.ref qm :: rest)) := m_get (k := 15) K rfl mfl_15 rfl d kk
theorem mld_15 {i : Int32} {kf : Int32 → Option α} (K : GX p m c cc nL s args meth D clM (tysM cz) ret RX4) (hF : rdA σ 15 i kf = some r) (d : decode cc pc = .ok (.iaload, 1)) (kk : ∀ v, kf v = some r → GW p l e R s m args below meth c Q (mInv D cz qm σ H0) (F0 m (pc + 1) ls (.int v :: rest))) : GW p l e R s m args below meth c Q (mInv D cz qm σ H0) (F0 m pc ls (.int i :: .ref (mad qm 15) :: rest)) := m_iald K hF rfl rfl rfl d kk
theorem mst_15 {i : Int32} {v : Int32} {kf : MS → Option α} (K : GX p m c cc nL s args meth D clM (tysM cz) ret RX4) (hF : wrA σ 15 i v kf = some r) (ha : ag w σ0 σ) (hw : w.2.1.contains 15 = true) (d : decode cc pc = .ok (.iastore, 1)) (kk : ∀ σ1, kf σ1 = some r → ag w σ0 σ1 → GW p l e R s m args below meth c Q (mInv D cz qm σ1 H0) (F0 m (pc + 1) ls (rest))) : GW p l e R s m args below meth c Q (mInv D cz qm σ H0) (F0 m pc ls (.int v :: .int i :: .ref (mad qm 15) :: rest)) := m_iast K hF ha hw rfl rfl rfl d kk
theorem mfl_16 : Cond.fieldLink RX4 35 (TX4 16).1 (TX4 16).2.1 (TX4 16).2.2.1 ∈ lw_all := q1522
theorem mget_16 (K : GX p m c cc nL s args meth D clM (tysM cz) ret RX4) (d : decode cc pc = .ok (.getfield 35, 3)) (kk : GW p l e R s m args below meth c Q (mInv D cz qm σ H0) (F0 m (pc + 3) ls (.ref (mad qm 16) :: rest))) : GW p l e R s m args below meth c Q (mInv D cz qm σ H0) (F0 m pc ls (.ref qm :: rest)) := m_get (k := 16) K rfl mfl_16 rfl d kk
theorem mld_16 {i : Int32} {kf : Int32 → Option α} (K : GX p m c cc nL s args meth D clM (tysM cz) ret RX4) (hF : rdA σ 16 i kf = some r) (d : decode cc pc = .ok (.iaload, 1)) (kk : ∀ v, kf v = some r → GW p l e R s m args below meth c Q (mInv D cz qm σ H0) (F0 m (pc + 1) ls (.int v :: rest))) : GW p l e R s m args below meth c Q (mInv D cz qm σ H0) (F0 m pc ls (.int i :: .ref (mad qm 16) :: rest)) := m_iald K hF rfl rfl rfl d kk
theorem mst_16 {i : Int32} {v : Int32} {kf : MS → Option α} (K : GX p m c cc nL s args meth D clM (tysM cz) ret RX4) (hF : wrA σ 16 i v kf = some r) (ha : ag w σ0 σ) (hw : w.2.1.contains 16 = true) (d : decode cc pc = .ok (.iastore, 1)) (kk : ∀ σ1, kf σ1 = some r → ag w σ0 σ1 → GW p l e R s m args below meth c Q (mInv D cz qm σ1 H0) (F0 m (pc + 1) ls (rest))) : GW p l e R s m args below meth c Q (mInv D cz qm σ H0) (F0 m pc ls (.int v :: .int i :: .ref (mad qm 16) :: rest)) := m_iast K hF ha hw rfl rfl rfl d kk
theorem mfl_17 : Cond.fieldLink RX4 38 (TX4 17).1 (TX4 17).2.1 (TX4 17).2.2.1 ∈ lw_all := q1523
theorem mget_17 (K : GX p m c cc nL s args meth D clM (tysM cz) ret RX4) (d : decode cc pc = .ok (.getfield 38, 3)) (kk : GW p l e R s m args below meth c Q (mInv D cz qm σ H0) (F0 m (pc + 3) ls (.ref (mad qm 17) :: rest))) : GW p l e R s m args below meth c Q (mInv D cz qm σ H0) (F0 m pc ls (.ref qm :: rest)) := m_get (k := 17) K rfl mfl_17 rfl d kk
theorem mld_17 {i : Int32} {kf : Int32 → Option α} (K : GX p m c cc nL s args meth D clM (tysM cz) ret RX4) (hF : rdA σ 17 i kf = some r) (d : decode cc pc = .ok (.iaload, 1)) (kk : ∀ v, kf v = some r → GW p l e R s m args below meth c Q (mInv D cz qm σ H0) (F0 m (pc + 1) ls (.int v :: rest))) : GW p l e R s m args below meth c Q (mInv D cz qm σ H0) (F0 m pc ls (.int i :: .ref (mad qm 17) :: rest)) := m_iald K hF rfl rfl rfl d kk
theorem mst_17 {i : Int32} {v : Int32} {kf : MS → Option α} (K : GX p m c cc nL s args meth D clM (tysM cz) ret RX4) (hF : wrA σ 17 i v kf = some r) (ha : ag w σ0 σ) (hw : w.2.1.contains 17 = true) (d : decode cc pc = .ok (.iastore, 1)) (kk : ∀ σ1, kf σ1 = some r → ag w σ0 σ1 → GW p l e R s m args below meth c Q (mInv D cz qm σ1 H0) (F0 m (pc + 1) ls (rest))) : GW p l e R s m args below meth c Q (mInv D cz qm σ H0) (F0 m pc ls (.int v :: .int i :: .ref (mad qm 17) :: rest)) := m_iast K hF ha hw rfl rfl rfl d kk
theorem mfl_18 : Cond.fieldLink RX4 301 (TX4 18).1 (TX4 18).2.1 (TX4 18).2.2.1 ∈ lw_all := q1524
theorem mget_18 (K : GX p m c cc nL s args meth D clM (tysM cz) ret RX4) (d : decode cc pc = .ok (.getfield 301, 3)) (kk : GW p l e R s m args below meth c Q (mInv D cz qm σ H0) (F0 m (pc + 3) ls (.int (gI σ 18) :: rest))) : GW p l e R s m args below meth c Q (mInv D cz qm σ H0) (F0 m pc ls (.ref qm :: rest)) := m_get (k := 18) K rfl mfl_18 rfl d kk
theorem mput_18 {v : Int32} {kf : MS → Option α} (K : GX p m c cc nL s args meth D clM (tysM cz) ret RX4) (hF : vlS (sI σ 18 v) kf = some r) (ha : ag w σ0 σ) (hw : w.1.contains 18 = true) (d : decode cc pc = .ok (.putfield 301, 3)) (kk : ∀ σ1, kf σ1 = some r → ag w σ0 σ1 → GW p l e R s m args below meth c Q (mInv D cz qm σ1 H0) (F0 m (pc + 3) ls (rest))) : GW p l e R s m args below meth c Q (mInv D cz qm σ H0) (F0 m pc ls (.int v :: .ref qm :: rest)) := m_putI (ty := .int) K hF ha hw rfl rfl mfl_18 rfl rfl rfl rfl d kk
theorem mfl_19 : Cond.fieldLink RX4 304 (TX4 19).1 (TX4 19).2.1 (TX4 19).2.2.1 ∈ lw_all := q1525
theorem mget_19 (K : GX p m c cc nL s args meth D clM (tysM cz) ret RX4) (d : decode cc pc = .ok (.getfield 304, 3)) (kk : GW p l e R s m args below meth c Q (mInv D cz qm σ H0) (F0 m (pc + 3) ls (.int (gI σ 19) :: rest))) : GW p l e R s m args below meth c Q (mInv D cz qm σ H0) (F0 m pc ls (.ref qm :: rest)) := m_get (k := 19) K rfl mfl_19 rfl d kk
theorem mput_19 {v : Int32} {kf : MS → Option α} (K : GX p m c cc nL s args meth D clM (tysM cz) ret RX4) (hF : vlS (sI σ 19 v) kf = some r) (ha : ag w σ0 σ) (hw : w.1.contains 19 = true) (d : decode cc pc = .ok (.putfield 304, 3)) (kk : ∀ σ1, kf σ1 = some r → ag w σ0 σ1 → GW p l e R s m args below meth c Q (mInv D cz qm σ1 H0) (F0 m (pc + 3) ls (rest))) : GW p l e R s m args below meth c Q (mInv D cz qm σ H0) (F0 m pc ls (.int v :: .ref qm :: rest)) := m_putI (ty := .int) K hF ha hw rfl rfl mfl_19 rfl rfl rfl rfl d kk
theorem mfl_20 : Cond.fieldLink RX4 317 (TX4 20).1 (TX4 20).2.1 (TX4 20).2.2.1 ∈ lw_all := q1526
theorem mget_20 (K : GX p m c cc nL s args meth D clM (tysM cz) ret RX4) (d : decode cc pc = .ok (.getfield 317, 3)) (kk : GW p l e R s m args below meth c Q (mInv D cz qm σ H0) (F0 m (pc + 3) ls (.int (gI σ 20) :: rest))) : GW p l e R s m args below meth c Q (mInv D cz qm σ H0) (F0 m pc ls (.ref qm :: rest)) := m_get (k := 20) K rfl mfl_20 rfl d kk
theorem mput_20 {v : Int32} {kf : MS → Option α} (K : GX p m c cc nL s args meth D clM (tysM cz) ret RX4) (hF : vlS (sI σ 20 v) kf = some r) (ha : ag w σ0 σ) (hw : w.1.contains 20 = true) (d : decode cc pc = .ok (.putfield 317, 3)) (kk : ∀ σ1, kf σ1 = some r → ag w σ0 σ1 → GW p l e R s m args below meth c Q (mInv D cz qm σ1 H0) (F0 m (pc + 3) ls (rest))) : GW p l e R s m args below meth c Q (mInv D cz qm σ H0) (F0 m pc ls (.int v :: .ref qm :: rest)) := m_putI (ty := .int) K hF ha hw rfl rfl mfl_20 rfl rfl rfl rfl d kk
theorem mfl_21 : Cond.fieldLink RX4 473 (TX4 21).1 (TX4 21).2.1 (TX4 21).2.2.1 ∈ lw_all := q1527
theorem mget_21 (K : GX p m c cc nL s args meth D clM (tysM cz) ret RX4) (d : decode cc pc = .ok (.getfield 473, 3)) (kk : GW p l e R s m args below meth c Q (mInv D cz qm σ H0) (F0 m (pc + 3) ls (.int (gI σ 21) :: rest))) : GW p l e R s m args below meth c Q (mInv D cz qm σ H0) (F0 m pc ls (.ref qm :: rest)) := m_get (k := 21) K rfl mfl_21 rfl d kk
theorem mput_21 {v : Int32} {kf : MS → Option α} (K : GX p m c cc nL s args meth D clM (tysM cz) ret RX4) (hF : vlS (sI σ 21 v) kf = some r) (ha : ag w σ0 σ) (hw : w.1.contains 21 = true) (d : decode cc pc = .ok (.putfield 473, 3)) (kk : ∀ σ1, kf σ1 = some r → ag w σ0 σ1 → GW p l e R s m args below meth c Q (mInv D cz qm σ1 H0) (F0 m (pc + 3) ls (rest))) : GW p l e R s m args below meth c Q (mInv D cz qm σ H0) (F0 m pc ls (.int v :: .ref qm :: rest)) := m_putI (ty := .int) K hF ha hw rfl rfl mfl_21 rfl rfl rfl rfl d kk
theorem mfl_22 : Cond.fieldLink RX4 320 (TX4 22).1 (TX4 22).2.1 (TX4 22).2.2.1 ∈ lw_all := q1528
theorem mget_22 (K : GX p m c cc nL s args meth D clM (tysM cz) ret RX4) (d : decode cc pc = .ok (.getfield 320, 3)) (kk : GW p l e R s m args below meth c Q (mInv D cz qm σ H0) (F0 m (pc + 3) ls (.int (gI σ 22) :: rest))) : GW p l e R s m args below meth c Q (mInv D cz qm σ H0) (F0 m pc ls (.ref qm :: rest)) := m_get (k := 22) K rfl mfl_22 rfl d kk
theorem mput_22 {v : Int32} {kf : MS → Option α} (K : GX p m c cc nL s args meth D clM (tysM cz) ret RX4) (hF : vlS (sI σ 22 v) kf = some r) (ha : ag w σ0 σ) (hw : w.1.contains 22 = true) (d : decode cc pc = .ok (.putfield 320, 3)) (kk : ∀ σ1, kf σ1 = some r → ag w σ0 σ1 → GW p l e R s m args below meth c Q (mInv D cz qm σ1 H0) (F0 m (pc + 3) ls (rest))) : GW p l e R s m args below meth c Q (mInv D cz qm σ H0) (F0 m pc ls (.int v :: .ref qm :: rest)) := m_putI (ty := .int) K hF ha hw rfl rfl mfl_22 rfl rfl rfl rfl d kk
theorem mfl_23 : Cond.fieldLink RX4 314 (TX4 23).1 (TX4 23).2.1 (TX4 23).2.2.1 ∈ lw_all := q1529
theorem mget_23 (K : GX p m c cc nL s args meth D clM (tysM cz) ret RX4) (d : decode cc pc = .ok (.getfield 314, 3)) (kk : GW p l e R s m args below meth c Q (mInv D cz qm σ H0) (F0 m (pc + 3) ls (.int (gI σ 23) :: rest))) : GW p l e R s m args below meth c Q (mInv D cz qm σ H0) (F0 m pc ls (.ref qm :: rest)) := m_get (k := 23) K rfl mfl_23 rfl d kk
theorem mput_23 {v : Int32} {kf : MS → Option α} (K : GX p m c cc nL s args meth D clM (tysM cz) ret RX4) (hF : vlS (sI σ 23 v) kf = some r) (ha : ag w σ0 σ) (hw : w.1.contains 23 = true) (d : decode cc pc = .ok (.putfield 314, 3)) (kk : ∀ σ1, kf σ1 = some r → ag w σ0 σ1 → GW p l e R s m args below meth c Q (mInv D cz qm σ1 H0) (F0 m (pc + 3) ls (rest))) : GW p l e R s m args below meth c Q (mInv D cz qm σ H0) (F0 m pc ls (.int v :: .ref qm :: rest)) := m_putI (ty := .int) K hF ha hw rfl rfl mfl_23 rfl rfl rfl rfl d kk
theorem mfl_24 : Cond.fieldLink RX4 41 (TX4 24).1 (TX4 24).2.1 (TX4 24).2.2.1 ∈ lw_all := q1530
theorem mget_24 (K : GX p m c cc nL s args meth D clM (tysM cz) ret RX4) (d : decode cc pc = .ok (.getfield 41, 3)) (kk : GW p l e R s m args below meth c Q (mInv D cz qm σ H0) (F0 m (pc + 3) ls (.ref (mad qm 24) :: rest))) : GW p l e R s m args below meth c Q (mInv D cz qm σ H0) (F0 m pc ls (.ref qm :: rest)) := m_get (k := 24) K rfl mfl_24 rfl d kk
theorem mld_24 {i : Int32} {kf : Int64 → Option α} (K : GX p m c cc nL s args meth D clM (tysM cz) ret RX4) (hF : rdB σ 24 i kf = some r) (d : decode cc pc = .ok (.laload, 1)) (kk : ∀ v, kf v = some r → GW p l e R s m args below meth c Q (mInv D cz qm σ H0) (F0 m (pc + 1) ls (.long v :: rest))) : GW p l e R s m args below meth c Q (mInv D cz qm σ H0) (F0 m pc ls (.int i :: .ref (mad qm 24) :: rest)) := m_lald K hF rfl rfl rfl d kk
theorem mst_24 {i : Int32} {v : Int64} {kf : MS → Option α} (K : GX p m c cc nL s args meth D clM (tysM cz) ret RX4) (hF : wrB σ 24 i v kf = some r) (ha : ag w σ0 σ) (hw : w.2.2.2.contains 24 = true) (d : decode cc pc = .ok (.lastore, 1)) (kk : ∀ σ1, kf σ1 = some r → ag w σ0 σ1 → GW p l e R s m args below meth c Q (mInv D cz qm σ1 H0) (F0 m (pc + 1) ls (rest))) : GW p l e R s m args below meth c Q (mInv D cz qm σ H0) (F0 m pc ls (.long v :: .int i :: .ref (mad qm 24) :: rest)) := m_last K hF ha hw rfl rfl rfl d kk
theorem mfl_25 : Cond.fieldLink RX4 45 (TX4 25).1 (TX4 25).2.1 (TX4 25).2.2.1 ∈ lw_all := q1531
theorem mget_25 (K : GX p m c cc nL s args meth D clM (tysM cz) ret RX4) (d : decode cc pc = .ok (.getfield 45, 3)) (kk : GW p l e R s m args below meth c Q (mInv D cz qm σ H0) (F0 m (pc + 3) ls (.ref (mad qm 25) :: rest))) : GW p l e R s m args below meth c Q (mInv D cz qm σ H0) (F0 m pc ls (.ref qm :: rest)) := m_get (k := 25) K rfl mfl_25 rfl d kk
theorem mld_25 {i : Int32} {kf : Int32 → Option α} (K : GX p m c cc nL s args meth D clM (tysM cz) ret RX4) (hF : rdA σ 25 i kf = some r) (d : decode cc pc = .ok (.iaload, 1)) (kk : ∀ v, kf v = some r → GW p l e R s m args below meth c Q (mInv D cz qm σ H0) (F0 m (pc + 1) ls (.int v :: rest))) : GW p l e R s m args below meth c Q (mInv D cz qm σ H0) (F0 m pc ls (.int i :: .ref (mad qm 25) :: rest)) := m_iald K hF rfl rfl rfl d kk
theorem mst_25 {i : Int32} {v : Int32} {kf : MS → Option α} (K : GX p m c cc nL s args meth D clM (tysM cz) ret RX4) (hF : wrA σ 25 i v kf = some r) (ha : ag w σ0 σ) (hw : w.2.1.contains 25 = true) (d : decode cc pc = .ok (.iastore, 1)) (kk : ∀ σ1, kf σ1 = some r → ag w σ0 σ1 → GW p l e R s m args below meth c Q (mInv D cz qm σ1 H0) (F0 m (pc + 1) ls (rest))) : GW p l e R s m args below meth c Q (mInv D cz qm σ H0) (F0 m pc ls (.int v :: .int i :: .ref (mad qm 25) :: rest)) := m_iast K hF ha hw rfl rfl rfl d kk
theorem mfl_26 : Cond.fieldLink RX4 48 (TX4 26).1 (TX4 26).2.1 (TX4 26).2.2.1 ∈ lw_all := q1532
theorem mget_26 (K : GX p m c cc nL s args meth D clM (tysM cz) ret RX4) (d : decode cc pc = .ok (.getfield 48, 3)) (kk : GW p l e R s m args below meth c Q (mInv D cz qm σ H0) (F0 m (pc + 3) ls (.ref (mad qm 26) :: rest))) : GW p l e R s m args below meth c Q (mInv D cz qm σ H0) (F0 m pc ls (.ref qm :: rest)) := m_get (k := 26) K rfl mfl_26 rfl d kk
theorem mld_26 {i : Int32} {kf : Int32 → Option α} (K : GX p m c cc nL s args meth D clM (tysM cz) ret RX4) (hF : rdA σ 26 i kf = some r) (d : decode cc pc = .ok (.iaload, 1)) (kk : ∀ v, kf v = some r → GW p l e R s m args below meth c Q (mInv D cz qm σ H0) (F0 m (pc + 1) ls (.int v :: rest))) : GW p l e R s m args below meth c Q (mInv D cz qm σ H0) (F0 m pc ls (.int i :: .ref (mad qm 26) :: rest)) := m_iald K hF rfl rfl rfl d kk
theorem mst_26 {i : Int32} {v : Int32} {kf : MS → Option α} (K : GX p m c cc nL s args meth D clM (tysM cz) ret RX4) (hF : wrA σ 26 i v kf = some r) (ha : ag w σ0 σ) (hw : w.2.1.contains 26 = true) (d : decode cc pc = .ok (.iastore, 1)) (kk : ∀ σ1, kf σ1 = some r → ag w σ0 σ1 → GW p l e R s m args below meth c Q (mInv D cz qm σ1 H0) (F0 m (pc + 1) ls (rest))) : GW p l e R s m args below meth c Q (mInv D cz qm σ H0) (F0 m pc ls (.int v :: .int i :: .ref (mad qm 26) :: rest)) := m_iast K hF ha hw rfl rfl rfl d kk
theorem mfl_27 : Cond.fieldLink RX4 51 (TX4 27).1 (TX4 27).2.1 (TX4 27).2.2.1 ∈ lw_all := q1533
theorem mget_27 (K : GX p m c cc nL s args meth D clM (tysM cz) ret RX4) (d : decode cc pc = .ok (.getfield 51, 3)) (kk : GW p l e R s m args below meth c Q (mInv D cz qm σ H0) (F0 m (pc + 3) ls (.ref (mad qm 27) :: rest))) : GW p l e R s m args below meth c Q (mInv D cz qm σ H0) (F0 m pc ls (.ref qm :: rest)) := m_get (k := 27) K rfl mfl_27 rfl d kk
theorem mld_27 {i : Int32} {kf : Int32 → Option α} (K : GX p m c cc nL s args meth D clM (tysM cz) ret RX4) (hF : rdA σ 27 i kf = some r) (d : decode cc pc = .ok (.iaload, 1)) (kk : ∀ v, kf v = some r → GW p l e R s m args below meth c Q (mInv D cz qm σ H0) (F0 m (pc + 1) ls (.int v :: rest))) : GW p l e R s m args below meth c Q (mInv D cz qm σ H0) (F0 m pc ls (.int i :: .ref (mad qm 27) :: rest)) := m_iald K hF rfl rfl rfl d kk
theorem mst_27 {i : Int32} {v : Int32} {kf : MS → Option α} (K : GX p m c cc nL s args meth D clM (tysM cz) ret RX4) (hF : wrA σ 27 i v kf = some r) (ha : ag w σ0 σ) (hw : w.2.1.contains 27 = true) (d : decode cc pc = .ok (.iastore, 1)) (kk : ∀ σ1, kf σ1 = some r → ag w σ0 σ1 → GW p l e R s m args below meth c Q (mInv D cz qm σ1 H0) (F0 m (pc + 1) ls (rest))) : GW p l e R s m args below meth c Q (mInv D cz qm σ H0) (F0 m pc ls (.int v :: .int i :: .ref (mad qm 27) :: rest)) := m_iast K hF ha hw rfl rfl rfl d kk
theorem mfl_28 : Cond.fieldLink RX4 54 (TX4 28).1 (TX4 28).2.1 (TX4 28).2.2.1 ∈ lw_all := q1534
theorem mget_28 (K : GX p m c cc nL s args meth D clM (tysM cz) ret RX4) (d : decode cc pc = .ok (.getfield 54, 3)) (kk : GW p l e R s m args below meth c Q (mInv D cz qm σ H0) (F0 m (pc + 3) ls (.ref (mad qm 28) :: rest))) : GW p l e R s m args below meth c Q (mInv D cz qm σ H0) (F0 m pc ls (.ref qm :: rest)) := m_get (k := 28) K rfl mfl_28 rfl d kk
theorem mld_28 {i : Int32} {kf : Int32 → Option α} (K : GX p m c cc nL s args meth D clM (tysM cz) ret RX4) (hF : rdA σ 28 i kf = some r) (d : decode cc pc = .ok (.iaload, 1)) (kk : ∀ v, kf v = some r → GW p l e R s m args below meth c Q (mInv D cz qm σ H0) (F0 m (pc + 1) ls (.int v :: rest))) : GW p l e R s m args below meth c Q (mInv D cz qm σ H0) (F0 m pc ls (.int i :: .ref (mad qm 28) :: rest)) := m_iald K hF rfl rfl rfl d kk
theorem mst_28 {i : Int32} {v : Int32} {kf : MS → Option α} (K : GX p m c cc nL s args meth D clM (tysM cz) ret RX4) (hF : wrA σ 28 i v kf = some r) (ha : ag w σ0 σ) (hw : w.2.1.contains 28 = true) (d : decode cc pc = .ok (.iastore, 1)) (kk : ∀ σ1, kf σ1 = some r → ag w σ0 σ1 → GW p l e R s m args below meth c Q (mInv D cz qm σ1 H0) (F0 m (pc + 1) ls (rest))) : GW p l e R s m args below meth c Q (mInv D cz qm σ H0) (F0 m pc ls (.int v :: .int i :: .ref (mad qm 28) :: rest)) := m_iast K hF ha hw rfl rfl rfl d kk
theorem mfl_29 : Cond.fieldLink RX4 57 (TX4 29).1 (TX4 29).2.1 (TX4 29).2.2.1 ∈ lw_all := q1535
theorem mget_29 (K : GX p m c cc nL s args meth D clM (tysM cz) ret RX4) (d : decode cc pc = .ok (.getfield 57, 3)) (kk : GW p l e R s m args below meth c Q (mInv D cz qm σ H0) (F0 m (pc + 3) ls (.ref (mad qm 29) :: rest))) : GW p l e R s m args below meth c Q (mInv D cz qm σ H0) (F0 m pc ls (.ref qm :: rest)) := m_get (k := 29) K rfl mfl_29 rfl d kk
theorem mld_29 {i : Int32} {kf : Int32 → Option α} (K : GX p m c cc nL s args meth D clM (tysM cz) ret RX4) (hF : rdA σ 29 i kf = some r) (d : decode cc pc = .ok (.iaload, 1)) (kk : ∀ v, kf v = some r → GW p l e R s m args below meth c Q (mInv D cz qm σ H0) (F0 m (pc + 1) ls (.int v :: rest))) : GW p l e R s m args below meth c Q (mInv D cz qm σ H0) (F0 m pc ls (.int i :: .ref (mad qm 29) :: rest)) := m_iald K hF rfl rfl rfl d kk
theorem mst_29 {i : Int32} {v : Int32} {kf : MS → Option α} (K : GX p m c cc nL s args meth D clM (tysM cz) ret RX4) (hF : wrA σ 29 i v kf = some r) (ha : ag w σ0 σ) (hw : w.2.1.contains 29 = true) (d : decode cc pc = .ok (.iastore, 1)) (kk : ∀ σ1, kf σ1 = some r → ag w σ0 σ1 → GW p l e R s m args below meth c Q (mInv D cz qm σ1 H0) (F0 m (pc + 1) ls (rest))) : GW p l e R s m args below meth c Q (mInv D cz qm σ H0) (F0 m pc ls (.int v :: .int i :: .ref (mad qm 29) :: rest)) := m_iast K hF ha hw rfl rfl rfl d kk
theorem mfl_30 : Cond.fieldLink RX4 60 (TX4 30).1 (TX4 30).2.1 (TX4 30).2.2.1 ∈ lw_all := q1536
theorem mget_30 (K : GX p m c cc nL s args meth D clM (tysM cz) ret RX4) (d : decode cc pc = .ok (.getfield 60, 3)) (kk : GW p l e R s m args below meth c Q (mInv D cz qm σ H0) (F0 m (pc + 3) ls (.ref (mad qm 30) :: rest))) : GW p l e R s m args below meth c Q (mInv D cz qm σ H0) (F0 m pc ls (.ref qm :: rest)) := m_get (k := 30) K rfl mfl_30 rfl d kk
theorem mld_30 {i : Int32} {kf : Int32 → Option α} (K : GX p m c cc nL s args meth D clM (tysM cz) ret RX4) (hF : rdA σ 30 i kf = some r) (d : decode cc pc = .ok (.iaload, 1)) (kk : ∀ v, kf v = some r → GW p l e R s m args below meth c Q (mInv D cz qm σ H0) (F0 m (pc + 1) ls (.int v :: rest))) : GW p l e R s m args below meth c Q (mInv D cz qm σ H0) (F0 m pc ls (.int i :: .ref (mad qm 30) :: rest)) := m_iald K hF rfl rfl rfl d kk
theorem mst_30 {i : Int32} {v : Int32} {kf : MS → Option α} (K : GX p m c cc nL s args meth D clM (tysM cz) ret RX4) (hF : wrA σ 30 i v kf = some r) (ha : ag w σ0 σ) (hw : w.2.1.contains 30 = true) (d : decode cc pc = .ok (.iastore, 1)) (kk : ∀ σ1, kf σ1 = some r → ag w σ0 σ1 → GW p l e R s m args below meth c Q (mInv D cz qm σ1 H0) (F0 m (pc + 1) ls (rest))) : GW p l e R s m args below meth c Q (mInv D cz qm σ H0) (F0 m pc ls (.int v :: .int i :: .ref (mad qm 30) :: rest)) := m_iast K hF ha hw rfl rfl rfl d kk
theorem mfl_31 : Cond.fieldLink RX4 63 (TX4 31).1 (TX4 31).2.1 (TX4 31).2.2.1 ∈ lw_all := q1537
theorem mget_31 (K : GX p m c cc nL s args meth D clM (tysM cz) ret RX4) (d : decode cc pc = .ok (.getfield 63, 3)) (kk : GW p l e R s m args below meth c Q (mInv D cz qm σ H0) (F0 m (pc + 3) ls (.ref (mad qm 31) :: rest))) : GW p l e R s m args below meth c Q (mInv D cz qm σ H0) (F0 m pc ls (.ref qm :: rest)) := m_get (k := 31) K rfl mfl_31 rfl d kk
theorem mld_31 {i : Int32} {kf : Int32 → Option α} (K : GX p m c cc nL s args meth D clM (tysM cz) ret RX4) (hF : rdA σ 31 i kf = some r) (d : decode cc pc = .ok (.iaload, 1)) (kk : ∀ v, kf v = some r → GW p l e R s m args below meth c Q (mInv D cz qm σ H0) (F0 m (pc + 1) ls (.int v :: rest))) : GW p l e R s m args below meth c Q (mInv D cz qm σ H0) (F0 m pc ls (.int i :: .ref (mad qm 31) :: rest)) := m_iald K hF rfl rfl rfl d kk
theorem mst_31 {i : Int32} {v : Int32} {kf : MS → Option α} (K : GX p m c cc nL s args meth D clM (tysM cz) ret RX4) (hF : wrA σ 31 i v kf = some r) (ha : ag w σ0 σ) (hw : w.2.1.contains 31 = true) (d : decode cc pc = .ok (.iastore, 1)) (kk : ∀ σ1, kf σ1 = some r → ag w σ0 σ1 → GW p l e R s m args below meth c Q (mInv D cz qm σ1 H0) (F0 m (pc + 1) ls (rest))) : GW p l e R s m args below meth c Q (mInv D cz qm σ H0) (F0 m pc ls (.int v :: .int i :: .ref (mad qm 31) :: rest)) := m_iast K hF ha hw rfl rfl rfl d kk
theorem mfl_32 : Cond.fieldLink RX4 66 (TX4 32).1 (TX4 32).2.1 (TX4 32).2.2.1 ∈ lw_all := q1538
theorem mget_32 (K : GX p m c cc nL s args meth D clM (tysM cz) ret RX4) (d : decode cc pc = .ok (.getfield 66, 3)) (kk : GW p l e R s m args below meth c Q (mInv D cz qm σ H0) (F0 m (pc + 3) ls (.ref (mad qm 32) :: rest))) : GW p l e R s m args below meth c Q (mInv D cz qm σ H0) (F0 m pc ls (.ref qm :: rest)) := m_get (k := 32) K rfl mfl_32 rfl d kk
theorem mld_32 {i : Int32} {kf : Int32 → Option α} (K : GX p m c cc nL s args meth D clM (tysM cz) ret RX4) (hF : rdA σ 32 i kf = some r) (d : decode cc pc = .ok (.iaload, 1)) (kk : ∀ v, kf v = some r → GW p l e R s m args below meth c Q (mInv D cz qm σ H0) (F0 m (pc + 1) ls (.int v :: rest))) : GW p l e R s m args below meth c Q (mInv D cz qm σ H0) (F0 m pc ls (.int i :: .ref (mad qm 32) :: rest)) := m_iald K hF rfl rfl rfl d kk
theorem mst_32 {i : Int32} {v : Int32} {kf : MS → Option α} (K : GX p m c cc nL s args meth D clM (tysM cz) ret RX4) (hF : wrA σ 32 i v kf = some r) (ha : ag w σ0 σ) (hw : w.2.1.contains 32 = true) (d : decode cc pc = .ok (.iastore, 1)) (kk : ∀ σ1, kf σ1 = some r → ag w σ0 σ1 → GW p l e R s m args below meth c Q (mInv D cz qm σ1 H0) (F0 m (pc + 1) ls (rest))) : GW p l e R s m args below meth c Q (mInv D cz qm σ H0) (F0 m pc ls (.int v :: .int i :: .ref (mad qm 32) :: rest)) := m_iast K hF ha hw rfl rfl rfl d kk
theorem mfl_33 : Cond.fieldLink RX4 69 (TX4 33).1 (TX4 33).2.1 (TX4 33).2.2.1 ∈ lw_all := q1539
theorem mget_33 (K : GX p m c cc nL s args meth D clM (tysM cz) ret RX4) (d : decode cc pc = .ok (.getfield 69, 3)) (kk : GW p l e R s m args below meth c Q (mInv D cz qm σ H0) (F0 m (pc + 3) ls (.ref (mad qm 33) :: rest))) : GW p l e R s m args below meth c Q (mInv D cz qm σ H0) (F0 m pc ls (.ref qm :: rest)) := m_get (k := 33) K rfl mfl_33 rfl d kk
theorem mld_33 {i : Int32} {kf : Int32 → Option α} (K : GX p m c cc nL s args meth D clM (tysM cz) ret RX4) (hF : rdA σ 33 i kf = some r) (d : decode cc pc = .ok (.iaload, 1)) (kk : ∀ v, kf v = some r → GW p l e R s m args below meth c Q (mInv D cz qm σ H0) (F0 m (pc + 1) ls (.int v :: rest))) : GW p l e R s m args below meth c Q (mInv D cz qm σ H0) (F0 m pc ls (.int i :: .ref (mad qm 33) :: rest)) := m_iald K hF rfl rfl rfl d kk
theorem mst_33 {i : Int32} {v : Int32} {kf : MS → Option α} (K : GX p m c cc nL s args meth D clM (tysM cz) ret RX4) (hF : wrA σ 33 i v kf = some r) (ha : ag w σ0 σ) (hw : w.2.1.contains 33 = true) (d : decode cc pc = .ok (.iastore, 1)) (kk : ∀ σ1, kf σ1 = some r → ag w σ0 σ1 → GW p l e R s m args below meth c Q (mInv D cz qm σ1 H0) (F0 m (pc + 1) ls (rest))) : GW p l e R s m args below meth c Q (mInv D cz qm σ H0) (F0 m pc ls (.int v :: .int i :: .ref (mad qm 33) :: rest)) := m_iast K hF ha hw rfl rfl rfl d kk
theorem mfl_34 : Cond.fieldLink RX4 72 (TX4 34).1 (TX4 34).2.1 (TX4 34).2.2.1 ∈ lw_all := q1540
theorem mget_34 (K : GX p m c cc nL s args meth D clM (tysM cz) ret RX4) (d : decode cc pc = .ok (.getfield 72, 3)) (kk : GW p l e R s m args below meth c Q (mInv D cz qm σ H0) (F0 m (pc + 3) ls (.ref (mad qm 34) :: rest))) : GW p l e R s m args below meth c Q (mInv D cz qm σ H0) (F0 m pc ls (.ref qm :: rest)) := m_get (k := 34) K rfl mfl_34 rfl d kk
theorem mld_34 {i : Int32} {kf : Int32 → Option α} (K : GX p m c cc nL s args meth D clM (tysM cz) ret RX4) (hF : rdA σ 34 i kf = some r) (d : decode cc pc = .ok (.iaload, 1)) (kk : ∀ v, kf v = some r → GW p l e R s m args below meth c Q (mInv D cz qm σ H0) (F0 m (pc + 1) ls (.int v :: rest))) : GW p l e R s m args below meth c Q (mInv D cz qm σ H0) (F0 m pc ls (.int i :: .ref (mad qm 34) :: rest)) := m_iald K hF rfl rfl rfl d kk
theorem mst_34 {i : Int32} {v : Int32} {kf : MS → Option α} (K : GX p m c cc nL s args meth D clM (tysM cz) ret RX4) (hF : wrA σ 34 i v kf = some r) (ha : ag w σ0 σ) (hw : w.2.1.contains 34 = true) (d : decode cc pc = .ok (.iastore, 1)) (kk : ∀ σ1, kf σ1 = some r → ag w σ0 σ1 → GW p l e R s m args below meth c Q (mInv D cz qm σ1 H0) (F0 m (pc + 1) ls (rest))) : GW p l e R s m args below meth c Q (mInv D cz qm σ H0) (F0 m pc ls (.int v :: .int i :: .ref (mad qm 34) :: rest)) := m_iast K hF ha hw rfl rfl rfl d kk
theorem mfl_35 : Cond.fieldLink RX4 75 (TX4 35).1 (TX4 35).2.1 (TX4 35).2.2.1 ∈ lw_all := q1541
theorem mget_35 (K : GX p m c cc nL s args meth D clM (tysM cz) ret RX4) (d : decode cc pc = .ok (.getfield 75, 3)) (kk : GW p l e R s m args below meth c Q (mInv D cz qm σ H0) (F0 m (pc + 3) ls (.ref (mad qm 35) :: rest))) : GW p l e R s m args below meth c Q (mInv D cz qm σ H0) (F0 m pc ls (.ref qm :: rest)) := m_get (k := 35) K rfl mfl_35 rfl d kk
theorem mld_35 {i : Int32} {kf : Int32 → Option α} (K : GX p m c cc nL s args meth D clM (tysM cz) ret RX4) (hF : rdA σ 35 i kf = some r) (d : decode cc pc = .ok (.iaload, 1)) (kk : ∀ v, kf v = some r → GW p l e R s m args below meth c Q (mInv D cz qm σ H0) (F0 m (pc + 1) ls (.int v :: rest))) : GW p l e R s m args below meth c Q (mInv D cz qm σ H0) (F0 m pc ls (.int i :: .ref (mad qm 35) :: rest)) := m_iald K hF rfl rfl rfl d kk
theorem mst_35 {i : Int32} {v : Int32} {kf : MS → Option α} (K : GX p m c cc nL s args meth D clM (tysM cz) ret RX4) (hF : wrA σ 35 i v kf = some r) (ha : ag w σ0 σ) (hw : w.2.1.contains 35 = true) (d : decode cc pc = .ok (.iastore, 1)) (kk : ∀ σ1, kf σ1 = some r → ag w σ0 σ1 → GW p l e R s m args below meth c Q (mInv D cz qm σ1 H0) (F0 m (pc + 1) ls (rest))) : GW p l e R s m args below meth c Q (mInv D cz qm σ H0) (F0 m pc ls (.int v :: .int i :: .ref (mad qm 35) :: rest)) := m_iast K hF ha hw rfl rfl rfl d kk
theorem mfl_36 : Cond.fieldLink RX4 78 (TX4 36).1 (TX4 36).2.1 (TX4 36).2.2.1 ∈ lw_all := q1542
theorem mget_36 (K : GX p m c cc nL s args meth D clM (tysM cz) ret RX4) (d : decode cc pc = .ok (.getfield 78, 3)) (kk : GW p l e R s m args below meth c Q (mInv D cz qm σ H0) (F0 m (pc + 3) ls (.ref (mad qm 36) :: rest))) : GW p l e R s m args below meth c Q (mInv D cz qm σ H0) (F0 m pc ls (.ref qm :: rest)) := m_get (k := 36) K rfl mfl_36 rfl d kk
theorem mld_36 {i : Int32} {kf : Int32 → Option α} (K : GX p m c cc nL s args meth D clM (tysM cz) ret RX4) (hF : rdA σ 36 i kf = some r) (d : decode cc pc = .ok (.baload, 1)) (kk : ∀ v, kf v = some r → GW p l e R s m args below meth c Q (mInv D cz qm σ H0) (F0 m (pc + 1) ls (.int v :: rest))) : GW p l e R s m args below meth c Q (mInv D cz qm σ H0) (F0 m pc ls (.int i :: .ref (mad qm 36) :: rest)) := m_zald K hF rfl rfl rfl d kk
theorem mst_36 {i : Int32} {v : Int32} {kf : MS → Option α} (K : GX p m c cc nL s args meth D clM (tysM cz) ret RX4) (hF : wrA σ 36 i v kf = some r) (hz : v = 0 ∨ v = 1) (ha : ag w σ0 σ) (hw : w.2.1.contains 36 = true) (d : decode cc pc = .ok (.bastore, 1)) (kk : ∀ σ1, kf σ1 = some r → ag w σ0 σ1 → GW p l e R s m args below meth c Q (mInv D cz qm σ1 H0) (F0 m (pc + 1) ls (rest))) : GW p l e R s m args below meth c Q (mInv D cz qm σ H0) (F0 m pc ls (.int v :: .int i :: .ref (mad qm 36) :: rest)) := m_zast K hF hz ha hw rfl rfl rfl d kk
theorem mfl_37 : Cond.fieldLink RX4 82 (TX4 37).1 (TX4 37).2.1 (TX4 37).2.2.1 ∈ lw_all := q1543
theorem mget_37 (K : GX p m c cc nL s args meth D clM (tysM cz) ret RX4) (d : decode cc pc = .ok (.getfield 82, 3)) (kk : GW p l e R s m args below meth c Q (mInv D cz qm σ H0) (F0 m (pc + 3) ls (.ref (mad qm 37) :: rest))) : GW p l e R s m args below meth c Q (mInv D cz qm σ H0) (F0 m pc ls (.ref qm :: rest)) := m_get (k := 37) K rfl mfl_37 rfl d kk
theorem mld_37 {i : Int32} {kf : Int32 → Option α} (K : GX p m c cc nL s args meth D clM (tysM cz) ret RX4) (hF : rdA σ 37 i kf = some r) (d : decode cc pc = .ok (.iaload, 1)) (kk : ∀ v, kf v = some r → GW p l e R s m args below meth c Q (mInv D cz qm σ H0) (F0 m (pc + 1) ls (.int v :: rest))) : GW p l e R s m args below meth c Q (mInv D cz qm σ H0) (F0 m pc ls (.int i :: .ref (mad qm 37) :: rest)) := m_iald K hF rfl rfl rfl d kk
theorem mst_37 {i : Int32} {v : Int32} {kf : MS → Option α} (K : GX p m c cc nL s args meth D clM (tysM cz) ret RX4) (hF : wrA σ 37 i v kf = some r) (ha : ag w σ0 σ) (hw : w.2.1.contains 37 = true) (d : decode cc pc = .ok (.iastore, 1)) (kk : ∀ σ1, kf σ1 = some r → ag w σ0 σ1 → GW p l e R s m args below meth c Q (mInv D cz qm σ1 H0) (F0 m (pc + 1) ls (rest))) : GW p l e R s m args below meth c Q (mInv D cz qm σ H0) (F0 m pc ls (.int v :: .int i :: .ref (mad qm 37) :: rest)) := m_iast K hF ha hw rfl rfl rfl d kk
theorem mfl_38 : Cond.fieldLink RX4 85 (TX4 38).1 (TX4 38).2.1 (TX4 38).2.2.1 ∈ lw_all := q1544
theorem mget_38 (K : GX p m c cc nL s args meth D clM (tysM cz) ret RX4) (d : decode cc pc = .ok (.getfield 85, 3)) (kk : GW p l e R s m args below meth c Q (mInv D cz qm σ H0) (F0 m (pc + 3) ls (.ref (mad qm 38) :: rest))) : GW p l e R s m args below meth c Q (mInv D cz qm σ H0) (F0 m pc ls (.ref qm :: rest)) := m_get (k := 38) K rfl mfl_38 rfl d kk
theorem mld_38 {i : Int32} {kf : Int32 → Option α} (K : GX p m c cc nL s args meth D clM (tysM cz) ret RX4) (hF : rdA σ 38 i kf = some r) (d : decode cc pc = .ok (.iaload, 1)) (kk : ∀ v, kf v = some r → GW p l e R s m args below meth c Q (mInv D cz qm σ H0) (F0 m (pc + 1) ls (.int v :: rest))) : GW p l e R s m args below meth c Q (mInv D cz qm σ H0) (F0 m pc ls (.int i :: .ref (mad qm 38) :: rest)) := m_iald K hF rfl rfl rfl d kk
theorem mst_38 {i : Int32} {v : Int32} {kf : MS → Option α} (K : GX p m c cc nL s args meth D clM (tysM cz) ret RX4) (hF : wrA σ 38 i v kf = some r) (ha : ag w σ0 σ) (hw : w.2.1.contains 38 = true) (d : decode cc pc = .ok (.iastore, 1)) (kk : ∀ σ1, kf σ1 = some r → ag w σ0 σ1 → GW p l e R s m args below meth c Q (mInv D cz qm σ1 H0) (F0 m (pc + 1) ls (rest))) : GW p l e R s m args below meth c Q (mInv D cz qm σ H0) (F0 m pc ls (.int v :: .int i :: .ref (mad qm 38) :: rest)) := m_iast K hF ha hw rfl rfl rfl d kk
theorem mfl_39 : Cond.fieldLink RX4 88 (TX4 39).1 (TX4 39).2.1 (TX4 39).2.2.1 ∈ lw_all := q1545
theorem mget_39 (K : GX p m c cc nL s args meth D clM (tysM cz) ret RX4) (d : decode cc pc = .ok (.getfield 88, 3)) (kk : GW p l e R s m args below meth c Q (mInv D cz qm σ H0) (F0 m (pc + 3) ls (.ref (mad qm 39) :: rest))) : GW p l e R s m args below meth c Q (mInv D cz qm σ H0) (F0 m pc ls (.ref qm :: rest)) := m_get (k := 39) K rfl mfl_39 rfl d kk
theorem mld_39 {i : Int32} {kf : Int32 → Option α} (K : GX p m c cc nL s args meth D clM (tysM cz) ret RX4) (hF : rdA σ 39 i kf = some r) (d : decode cc pc = .ok (.iaload, 1)) (kk : ∀ v, kf v = some r → GW p l e R s m args below meth c Q (mInv D cz qm σ H0) (F0 m (pc + 1) ls (.int v :: rest))) : GW p l e R s m args below meth c Q (mInv D cz qm σ H0) (F0 m pc ls (.int i :: .ref (mad qm 39) :: rest)) := m_iald K hF rfl rfl rfl d kk
theorem mst_39 {i : Int32} {v : Int32} {kf : MS → Option α} (K : GX p m c cc nL s args meth D clM (tysM cz) ret RX4) (hF : wrA σ 39 i v kf = some r) (ha : ag w σ0 σ) (hw : w.2.1.contains 39 = true) (d : decode cc pc = .ok (.iastore, 1)) (kk : ∀ σ1, kf σ1 = some r → ag w σ0 σ1 → GW p l e R s m args below meth c Q (mInv D cz qm σ1 H0) (F0 m (pc + 1) ls (rest))) : GW p l e R s m args below meth c Q (mInv D cz qm σ H0) (F0 m pc ls (.int v :: .int i :: .ref (mad qm 39) :: rest)) := m_iast K hF ha hw rfl rfl rfl d kk
theorem mfl_40 : Cond.fieldLink RX4 91 (TX4 40).1 (TX4 40).2.1 (TX4 40).2.2.1 ∈ lw_all := q1546
theorem mget_40 (K : GX p m c cc nL s args meth D clM (tysM cz) ret RX4) (d : decode cc pc = .ok (.getfield 91, 3)) (kk : GW p l e R s m args below meth c Q (mInv D cz qm σ H0) (F0 m (pc + 3) ls (.ref (mad qm 40) :: rest))) : GW p l e R s m args below meth c Q (mInv D cz qm σ H0) (F0 m pc ls (.ref qm :: rest)) := m_get (k := 40) K rfl mfl_40 rfl d kk
theorem mld_40 {i : Int32} {kf : Int32 → Option α} (K : GX p m c cc nL s args meth D clM (tysM cz) ret RX4) (hF : rdA σ 40 i kf = some r) (d : decode cc pc = .ok (.iaload, 1)) (kk : ∀ v, kf v = some r → GW p l e R s m args below meth c Q (mInv D cz qm σ H0) (F0 m (pc + 1) ls (.int v :: rest))) : GW p l e R s m args below meth c Q (mInv D cz qm σ H0) (F0 m pc ls (.int i :: .ref (mad qm 40) :: rest)) := m_iald K hF rfl rfl rfl d kk
theorem mst_40 {i : Int32} {v : Int32} {kf : MS → Option α} (K : GX p m c cc nL s args meth D clM (tysM cz) ret RX4) (hF : wrA σ 40 i v kf = some r) (ha : ag w σ0 σ) (hw : w.2.1.contains 40 = true) (d : decode cc pc = .ok (.iastore, 1)) (kk : ∀ σ1, kf σ1 = some r → ag w σ0 σ1 → GW p l e R s m args below meth c Q (mInv D cz qm σ1 H0) (F0 m (pc + 1) ls (rest))) : GW p l e R s m args below meth c Q (mInv D cz qm σ H0) (F0 m pc ls (.int v :: .int i :: .ref (mad qm 40) :: rest)) := m_iast K hF ha hw rfl rfl rfl d kk
theorem mfl_41 : Cond.fieldLink RX4 94 (TX4 41).1 (TX4 41).2.1 (TX4 41).2.2.1 ∈ lw_all := q1547
theorem mget_41 (K : GX p m c cc nL s args meth D clM (tysM cz) ret RX4) (d : decode cc pc = .ok (.getfield 94, 3)) (kk : GW p l e R s m args below meth c Q (mInv D cz qm σ H0) (F0 m (pc + 3) ls (.ref (mad qm 41) :: rest))) : GW p l e R s m args below meth c Q (mInv D cz qm σ H0) (F0 m pc ls (.ref qm :: rest)) := m_get (k := 41) K rfl mfl_41 rfl d kk
theorem mld_41 {i : Int32} {kf : Int32 → Option α} (K : GX p m c cc nL s args meth D clM (tysM cz) ret RX4) (hF : rdA σ 41 i kf = some r) (d : decode cc pc = .ok (.iaload, 1)) (kk : ∀ v, kf v = some r → GW p l e R s m args below meth c Q (mInv D cz qm σ H0) (F0 m (pc + 1) ls (.int v :: rest))) : GW p l e R s m args below meth c Q (mInv D cz qm σ H0) (F0 m pc ls (.int i :: .ref (mad qm 41) :: rest)) := m_iald K hF rfl rfl rfl d kk
theorem mst_41 {i : Int32} {v : Int32} {kf : MS → Option α} (K : GX p m c cc nL s args meth D clM (tysM cz) ret RX4) (hF : wrA σ 41 i v kf = some r) (ha : ag w σ0 σ) (hw : w.2.1.contains 41 = true) (d : decode cc pc = .ok (.iastore, 1)) (kk : ∀ σ1, kf σ1 = some r → ag w σ0 σ1 → GW p l e R s m args below meth c Q (mInv D cz qm σ1 H0) (F0 m (pc + 1) ls (rest))) : GW p l e R s m args below meth c Q (mInv D cz qm σ H0) (F0 m pc ls (.int v :: .int i :: .ref (mad qm 41) :: rest)) := m_iast K hF ha hw rfl rfl rfl d kk
theorem mfl_42 : Cond.fieldLink RX4 97 (TX4 42).1 (TX4 42).2.1 (TX4 42).2.2.1 ∈ lw_all := q1548
theorem mget_42 (K : GX p m c cc nL s args meth D clM (tysM cz) ret RX4) (d : decode cc pc = .ok (.getfield 97, 3)) (kk : GW p l e R s m args below meth c Q (mInv D cz qm σ H0) (F0 m (pc + 3) ls (.ref (mad qm 42) :: rest))) : GW p l e R s m args below meth c Q (mInv D cz qm σ H0) (F0 m pc ls (.ref qm :: rest)) := m_get (k := 42) K rfl mfl_42 rfl d kk
theorem mld_42 {i : Int32} {kf : Int32 → Option α} (K : GX p m c cc nL s args meth D clM (tysM cz) ret RX4) (hF : rdA σ 42 i kf = some r) (d : decode cc pc = .ok (.iaload, 1)) (kk : ∀ v, kf v = some r → GW p l e R s m args below meth c Q (mInv D cz qm σ H0) (F0 m (pc + 1) ls (.int v :: rest))) : GW p l e R s m args below meth c Q (mInv D cz qm σ H0) (F0 m pc ls (.int i :: .ref (mad qm 42) :: rest)) := m_iald K hF rfl rfl rfl d kk
theorem mst_42 {i : Int32} {v : Int32} {kf : MS → Option α} (K : GX p m c cc nL s args meth D clM (tysM cz) ret RX4) (hF : wrA σ 42 i v kf = some r) (ha : ag w σ0 σ) (hw : w.2.1.contains 42 = true) (d : decode cc pc = .ok (.iastore, 1)) (kk : ∀ σ1, kf σ1 = some r → ag w σ0 σ1 → GW p l e R s m args below meth c Q (mInv D cz qm σ1 H0) (F0 m (pc + 1) ls (rest))) : GW p l e R s m args below meth c Q (mInv D cz qm σ H0) (F0 m pc ls (.int v :: .int i :: .ref (mad qm 42) :: rest)) := m_iast K hF ha hw rfl rfl rfl d kk
theorem mfl_43 : Cond.fieldLink RX4 100 (TX4 43).1 (TX4 43).2.1 (TX4 43).2.2.1 ∈ lw_all := q1549
theorem mget_43 (K : GX p m c cc nL s args meth D clM (tysM cz) ret RX4) (d : decode cc pc = .ok (.getfield 100, 3)) (kk : GW p l e R s m args below meth c Q (mInv D cz qm σ H0) (F0 m (pc + 3) ls (.ref (mad qm 43) :: rest))) : GW p l e R s m args below meth c Q (mInv D cz qm σ H0) (F0 m pc ls (.ref qm :: rest)) := m_get (k := 43) K rfl mfl_43 rfl d kk
theorem mld_43 {i : Int32} {kf : Int32 → Option α} (K : GX p m c cc nL s args meth D clM (tysM cz) ret RX4) (hF : rdA σ 43 i kf = some r) (d : decode cc pc = .ok (.iaload, 1)) (kk : ∀ v, kf v = some r → GW p l e R s m args below meth c Q (mInv D cz qm σ H0) (F0 m (pc + 1) ls (.int v :: rest))) : GW p l e R s m args below meth c Q (mInv D cz qm σ H0) (F0 m pc ls (.int i :: .ref (mad qm 43) :: rest)) := m_iald K hF rfl rfl rfl d kk
theorem mst_43 {i : Int32} {v : Int32} {kf : MS → Option α} (K : GX p m c cc nL s args meth D clM (tysM cz) ret RX4) (hF : wrA σ 43 i v kf = some r) (ha : ag w σ0 σ) (hw : w.2.1.contains 43 = true) (d : decode cc pc = .ok (.iastore, 1)) (kk : ∀ σ1, kf σ1 = some r → ag w σ0 σ1 → GW p l e R s m args below meth c Q (mInv D cz qm σ1 H0) (F0 m (pc + 1) ls (rest))) : GW p l e R s m args below meth c Q (mInv D cz qm σ H0) (F0 m pc ls (.int v :: .int i :: .ref (mad qm 43) :: rest)) := m_iast K hF ha hw rfl rfl rfl d kk
theorem mfl_44 : Cond.fieldLink RX4 103 (TX4 44).1 (TX4 44).2.1 (TX4 44).2.2.1 ∈ lw_all := q1550
theorem mget_44 (K : GX p m c cc nL s args meth D clM (tysM cz) ret RX4) (d : decode cc pc = .ok (.getfield 103, 3)) (kk : GW p l e R s m args below meth c Q (mInv D cz qm σ H0) (F0 m (pc + 3) ls (.ref (mad qm 44) :: rest))) : GW p l e R s m args below meth c Q (mInv D cz qm σ H0) (F0 m pc ls (.ref qm :: rest)) := m_get (k := 44) K rfl mfl_44 rfl d kk
theorem mld_44 {i : Int32} {kf : Int32 → Option α} (K : GX p m c cc nL s args meth D clM (tysM cz) ret RX4) (hF : rdA σ 44 i kf = some r) (d : decode cc pc = .ok (.iaload, 1)) (kk : ∀ v, kf v = some r → GW p l e R s m args below meth c Q (mInv D cz qm σ H0) (F0 m (pc + 1) ls (.int v :: rest))) : GW p l e R s m args below meth c Q (mInv D cz qm σ H0) (F0 m pc ls (.int i :: .ref (mad qm 44) :: rest)) := m_iald K hF rfl rfl rfl d kk
theorem mst_44 {i : Int32} {v : Int32} {kf : MS → Option α} (K : GX p m c cc nL s args meth D clM (tysM cz) ret RX4) (hF : wrA σ 44 i v kf = some r) (ha : ag w σ0 σ) (hw : w.2.1.contains 44 = true) (d : decode cc pc = .ok (.iastore, 1)) (kk : ∀ σ1, kf σ1 = some r → ag w σ0 σ1 → GW p l e R s m args below meth c Q (mInv D cz qm σ1 H0) (F0 m (pc + 1) ls (rest))) : GW p l e R s m args below meth c Q (mInv D cz qm σ H0) (F0 m pc ls (.int v :: .int i :: .ref (mad qm 44) :: rest)) := m_iast K hF ha hw rfl rfl rfl d kk
theorem mfl_45 : Cond.fieldLink RX4 106 (TX4 45).1 (TX4 45).2.1 (TX4 45).2.2.1 ∈ lw_all := q1551
theorem mget_45 (K : GX p m c cc nL s args meth D clM (tysM cz) ret RX4) (d : decode cc pc = .ok (.getfield 106, 3)) (kk : GW p l e R s m args below meth c Q (mInv D cz qm σ H0) (F0 m (pc + 3) ls (.ref (mad qm 45) :: rest))) : GW p l e R s m args below meth c Q (mInv D cz qm σ H0) (F0 m pc ls (.ref qm :: rest)) := m_get (k := 45) K rfl mfl_45 rfl d kk
theorem mld_45 {i : Int32} {kf : Int32 → Option α} (K : GX p m c cc nL s args meth D clM (tysM cz) ret RX4) (hF : rdA σ 45 i kf = some r) (d : decode cc pc = .ok (.iaload, 1)) (kk : ∀ v, kf v = some r → GW p l e R s m args below meth c Q (mInv D cz qm σ H0) (F0 m (pc + 1) ls (.int v :: rest))) : GW p l e R s m args below meth c Q (mInv D cz qm σ H0) (F0 m pc ls (.int i :: .ref (mad qm 45) :: rest)) := m_iald K hF rfl rfl rfl d kk
theorem mst_45 {i : Int32} {v : Int32} {kf : MS → Option α} (K : GX p m c cc nL s args meth D clM (tysM cz) ret RX4) (hF : wrA σ 45 i v kf = some r) (ha : ag w σ0 σ) (hw : w.2.1.contains 45 = true) (d : decode cc pc = .ok (.iastore, 1)) (kk : ∀ σ1, kf σ1 = some r → ag w σ0 σ1 → GW p l e R s m args below meth c Q (mInv D cz qm σ1 H0) (F0 m (pc + 1) ls (rest))) : GW p l e R s m args below meth c Q (mInv D cz qm σ H0) (F0 m pc ls (.int v :: .int i :: .ref (mad qm 45) :: rest)) := m_iast K hF ha hw rfl rfl rfl d kk
theorem mfl_46 : Cond.fieldLink RX4 109 (TX4 46).1 (TX4 46).2.1 (TX4 46).2.2.1 ∈ lw_all := q1552
theorem mget_46 (K : GX p m c cc nL s args meth D clM (tysM cz) ret RX4) (d : decode cc pc = .ok (.getfield 109, 3)) (kk : GW p l e R s m args below meth c Q (mInv D cz qm σ H0) (F0 m (pc + 3) ls (.ref (mad qm 46) :: rest))) : GW p l e R s m args below meth c Q (mInv D cz qm σ H0) (F0 m pc ls (.ref qm :: rest)) := m_get (k := 46) K rfl mfl_46 rfl d kk
theorem mld_46 {i : Int32} {kf : Int32 → Option α} (K : GX p m c cc nL s args meth D clM (tysM cz) ret RX4) (hF : rdA σ 46 i kf = some r) (d : decode cc pc = .ok (.iaload, 1)) (kk : ∀ v, kf v = some r → GW p l e R s m args below meth c Q (mInv D cz qm σ H0) (F0 m (pc + 1) ls (.int v :: rest))) : GW p l e R s m args below meth c Q (mInv D cz qm σ H0) (F0 m pc ls (.int i :: .ref (mad qm 46) :: rest)) := m_iald K hF rfl rfl rfl d kk
theorem mst_46 {i : Int32} {v : Int32} {kf : MS → Option α} (K : GX p m c cc nL s args meth D clM (tysM cz) ret RX4) (hF : wrA σ 46 i v kf = some r) (ha : ag w σ0 σ) (hw : w.2.1.contains 46 = true) (d : decode cc pc = .ok (.iastore, 1)) (kk : ∀ σ1, kf σ1 = some r → ag w σ0 σ1 → GW p l e R s m args below meth c Q (mInv D cz qm σ1 H0) (F0 m (pc + 1) ls (rest))) : GW p l e R s m args below meth c Q (mInv D cz qm σ H0) (F0 m pc ls (.int v :: .int i :: .ref (mad qm 46) :: rest)) := m_iast K hF ha hw rfl rfl rfl d kk
theorem mfl_47 : Cond.fieldLink RX4 112 (TX4 47).1 (TX4 47).2.1 (TX4 47).2.2.1 ∈ lw_all := q1553
theorem mget_47 (K : GX p m c cc nL s args meth D clM (tysM cz) ret RX4) (d : decode cc pc = .ok (.getfield 112, 3)) (kk : GW p l e R s m args below meth c Q (mInv D cz qm σ H0) (F0 m (pc + 3) ls (.ref (mad qm 47) :: rest))) : GW p l e R s m args below meth c Q (mInv D cz qm σ H0) (F0 m pc ls (.ref qm :: rest)) := m_get (k := 47) K rfl mfl_47 rfl d kk
theorem mld_47 {i : Int32} {kf : Int32 → Option α} (K : GX p m c cc nL s args meth D clM (tysM cz) ret RX4) (hF : rdA σ 47 i kf = some r) (d : decode cc pc = .ok (.iaload, 1)) (kk : ∀ v, kf v = some r → GW p l e R s m args below meth c Q (mInv D cz qm σ H0) (F0 m (pc + 1) ls (.int v :: rest))) : GW p l e R s m args below meth c Q (mInv D cz qm σ H0) (F0 m pc ls (.int i :: .ref (mad qm 47) :: rest)) := m_iald K hF rfl rfl rfl d kk
theorem mst_47 {i : Int32} {v : Int32} {kf : MS → Option α} (K : GX p m c cc nL s args meth D clM (tysM cz) ret RX4) (hF : wrA σ 47 i v kf = some r) (ha : ag w σ0 σ) (hw : w.2.1.contains 47 = true) (d : decode cc pc = .ok (.iastore, 1)) (kk : ∀ σ1, kf σ1 = some r → ag w σ0 σ1 → GW p l e R s m args below meth c Q (mInv D cz qm σ1 H0) (F0 m (pc + 1) ls (rest))) : GW p l e R s m args below meth c Q (mInv D cz qm σ H0) (F0 m pc ls (.int v :: .int i :: .ref (mad qm 47) :: rest)) := m_iast K hF ha hw rfl rfl rfl d kk
theorem mfl_48 : Cond.fieldLink RX4 115 (TX4 48).1 (TX4 48).2.1 (TX4 48).2.2.1 ∈ lw_all := q1554
theorem mget_48 (K : GX p m c cc nL s args meth D clM (tysM cz) ret RX4) (d : decode cc pc = .ok (.getfield 115, 3)) (kk : GW p l e R s m args below meth c Q (mInv D cz qm σ H0) (F0 m (pc + 3) ls (.ref (mad qm 48) :: rest))) : GW p l e R s m args below meth c Q (mInv D cz qm σ H0) (F0 m pc ls (.ref qm :: rest)) := m_get (k := 48) K rfl mfl_48 rfl d kk
theorem mld_48 {i : Int32} {kf : Int32 → Option α} (K : GX p m c cc nL s args meth D clM (tysM cz) ret RX4) (hF : rdA σ 48 i kf = some r) (d : decode cc pc = .ok (.baload, 1)) (kk : ∀ v, kf v = some r → GW p l e R s m args below meth c Q (mInv D cz qm σ H0) (F0 m (pc + 1) ls (.int v :: rest))) : GW p l e R s m args below meth c Q (mInv D cz qm σ H0) (F0 m pc ls (.int i :: .ref (mad qm 48) :: rest)) := m_zald K hF rfl rfl rfl d kk
theorem mst_48 {i : Int32} {v : Int32} {kf : MS → Option α} (K : GX p m c cc nL s args meth D clM (tysM cz) ret RX4) (hF : wrA σ 48 i v kf = some r) (hz : v = 0 ∨ v = 1) (ha : ag w σ0 σ) (hw : w.2.1.contains 48 = true) (d : decode cc pc = .ok (.bastore, 1)) (kk : ∀ σ1, kf σ1 = some r → ag w σ0 σ1 → GW p l e R s m args below meth c Q (mInv D cz qm σ1 H0) (F0 m (pc + 1) ls (rest))) : GW p l e R s m args below meth c Q (mInv D cz qm σ H0) (F0 m pc ls (.int v :: .int i :: .ref (mad qm 48) :: rest)) := m_zast K hF hz ha hw rfl rfl rfl d kk
theorem mfl_49 : Cond.fieldLink RX4 382 (TX4 49).1 (TX4 49).2.1 (TX4 49).2.2.1 ∈ lw_all := q1555
theorem mget_49 (K : GX p m c cc nL s args meth D clM (tysM cz) ret RX4) (d : decode cc pc = .ok (.getfield 382, 3)) (kk : GW p l e R s m args below meth c Q (mInv D cz qm σ H0) (F0 m (pc + 3) ls (.int (gI σ 49) :: rest))) : GW p l e R s m args below meth c Q (mInv D cz qm σ H0) (F0 m pc ls (.ref qm :: rest)) := m_get (k := 49) K rfl mfl_49 rfl d kk
theorem mput_49 {v : Int32} {kf : MS → Option α} (K : GX p m c cc nL s args meth D clM (tysM cz) ret RX4) (hF : vlS (sI σ 49 v) kf = some r) (ha : ag w σ0 σ) (hw : w.1.contains 49 = true) (d : decode cc pc = .ok (.putfield 382, 3)) (kk : ∀ σ1, kf σ1 = some r → ag w σ0 σ1 → GW p l e R s m args below meth c Q (mInv D cz qm σ1 H0) (F0 m (pc + 3) ls (rest))) : GW p l e R s m args below meth c Q (mInv D cz qm σ H0) (F0 m pc ls (.int v :: .ref qm :: rest)) := m_putI (ty := .int) K hF ha hw rfl rfl mfl_49 rfl rfl rfl rfl d kk
theorem mfl_50 : Cond.fieldLink RX4 385 (TX4 50).1 (TX4 50).2.1 (TX4 50).2.2.1 ∈ lw_all := q1556
theorem mget_50 (K : GX p m c cc nL s args meth D clM (tysM cz) ret RX4) (d : decode cc pc = .ok (.getfield 385, 3)) (kk : GW p l e R s m args below meth c Q (mInv D cz qm σ H0) (F0 m (pc + 3) ls (.int (gI σ 50) :: rest))) : GW p l e R s m args below meth c Q (mInv D cz qm σ H0) (F0 m pc ls (.ref qm :: rest)) := m_get (k := 50) K rfl mfl_50 rfl d kk
theorem mput_50 {v : Int32} {kf : MS → Option α} (K : GX p m c cc nL s args meth D clM (tysM cz) ret RX4) (hF : vlS (sI σ 50 v) kf = some r) (ha : ag w σ0 σ) (hw : w.1.contains 50 = true) (d : decode cc pc = .ok (.putfield 385, 3)) (kk : ∀ σ1, kf σ1 = some r → ag w σ0 σ1 → GW p l e R s m args below meth c Q (mInv D cz qm σ1 H0) (F0 m (pc + 3) ls (rest))) : GW p l e R s m args below meth c Q (mInv D cz qm σ H0) (F0 m pc ls (.int v :: .ref qm :: rest)) := m_putI (ty := .int) K hF ha hw rfl rfl mfl_50 rfl rfl rfl rfl d kk
theorem mfl_51 : Cond.fieldLink RX4 388 (TX4 51).1 (TX4 51).2.1 (TX4 51).2.2.1 ∈ lw_all := q1557
theorem mget_51 (K : GX p m c cc nL s args meth D clM (tysM cz) ret RX4) (d : decode cc pc = .ok (.getfield 388, 3)) (kk : GW p l e R s m args below meth c Q (mInv D cz qm σ H0) (F0 m (pc + 3) ls (.int (gI σ 51) :: rest))) : GW p l e R s m args below meth c Q (mInv D cz qm σ H0) (F0 m pc ls (.ref qm :: rest)) := m_get (k := 51) K rfl mfl_51 rfl d kk
theorem mput_51 {v : Int32} {kf : MS → Option α} (K : GX p m c cc nL s args meth D clM (tysM cz) ret RX4) (hF : vlS (sI σ 51 v) kf = some r) (ha : ag w σ0 σ) (hw : w.1.contains 51 = true) (d : decode cc pc = .ok (.putfield 388, 3)) (kk : ∀ σ1, kf σ1 = some r → ag w σ0 σ1 → GW p l e R s m args below meth c Q (mInv D cz qm σ1 H0) (F0 m (pc + 3) ls (rest))) : GW p l e R s m args below meth c Q (mInv D cz qm σ H0) (F0 m pc ls (.int v :: .ref qm :: rest)) := m_putI (ty := .int) K hF ha hw rfl rfl mfl_51 rfl rfl rfl rfl d kk
theorem mfl_52 : Cond.fieldLink RX4 394 (TX4 52).1 (TX4 52).2.1 (TX4 52).2.2.1 ∈ lw_all := q1558
theorem mget_52 (K : GX p m c cc nL s args meth D clM (tysM cz) ret RX4) (d : decode cc pc = .ok (.getfield 394, 3)) (kk : GW p l e R s m args below meth c Q (mInv D cz qm σ H0) (F0 m (pc + 3) ls (.int (gI σ 52) :: rest))) : GW p l e R s m args below meth c Q (mInv D cz qm σ H0) (F0 m pc ls (.ref qm :: rest)) := m_get (k := 52) K rfl mfl_52 rfl d kk
theorem mput_52 {v : Int32} {kf : MS → Option α} (K : GX p m c cc nL s args meth D clM (tysM cz) ret RX4) (hF : vlS (sI σ 52 v) kf = some r) (ha : ag w σ0 σ) (hw : w.1.contains 52 = true) (d : decode cc pc = .ok (.putfield 394, 3)) (kk : ∀ σ1, kf σ1 = some r → ag w σ0 σ1 → GW p l e R s m args below meth c Q (mInv D cz qm σ1 H0) (F0 m (pc + 3) ls (rest))) : GW p l e R s m args below meth c Q (mInv D cz qm σ H0) (F0 m pc ls (.int v :: .ref qm :: rest)) := m_putI (ty := .int) K hF ha hw rfl rfl mfl_52 rfl rfl rfl rfl d kk
theorem mfl_53 : Cond.fieldLink RX4 400 (TX4 53).1 (TX4 53).2.1 (TX4 53).2.2.1 ∈ lw_all := q1559
theorem mget_53 (K : GX p m c cc nL s args meth D clM (tysM cz) ret RX4) (d : decode cc pc = .ok (.getfield 400, 3)) (kk : GW p l e R s m args below meth c Q (mInv D cz qm σ H0) (F0 m (pc + 3) ls (.int (gI σ 53) :: rest))) : GW p l e R s m args below meth c Q (mInv D cz qm σ H0) (F0 m pc ls (.ref qm :: rest)) := m_get (k := 53) K rfl mfl_53 rfl d kk
theorem mput_53 {v : Int32} {kf : MS → Option α} (K : GX p m c cc nL s args meth D clM (tysM cz) ret RX4) (hF : vlS (sI σ 53 v) kf = some r) (ha : ag w σ0 σ) (hw : w.1.contains 53 = true) (d : decode cc pc = .ok (.putfield 400, 3)) (kk : ∀ σ1, kf σ1 = some r → ag w σ0 σ1 → GW p l e R s m args below meth c Q (mInv D cz qm σ1 H0) (F0 m (pc + 3) ls (rest))) : GW p l e R s m args below meth c Q (mInv D cz qm σ H0) (F0 m pc ls (.int v :: .ref qm :: rest)) := m_putI (ty := .int) K hF ha hw rfl rfl mfl_53 rfl rfl rfl rfl d kk
theorem mfl_54 : Cond.fieldLink RX4 409 (TX4 54).1 (TX4 54).2.1 (TX4 54).2.2.1 ∈ lw_all := q1560
theorem mget_54 (K : GX p m c cc nL s args meth D clM (tysM cz) ret RX4) (d : decode cc pc = .ok (.getfield 409, 3)) (kk : GW p l e R s m args below meth c Q (mInv D cz qm σ H0) (F0 m (pc + 3) ls (.int (gI σ 54) :: rest))) : GW p l e R s m args below meth c Q (mInv D cz qm σ H0) (F0 m pc ls (.ref qm :: rest)) := m_get (k := 54) K rfl mfl_54 rfl d kk
theorem mput_54 {v : Int32} {kf : MS → Option α} (K : GX p m c cc nL s args meth D clM (tysM cz) ret RX4) (hF : vlS (sI σ 54 v) kf = some r) (ha : ag w σ0 σ) (hw : w.1.contains 54 = true) (d : decode cc pc = .ok (.putfield 409, 3)) (kk : ∀ σ1, kf σ1 = some r → ag w σ0 σ1 → GW p l e R s m args below meth c Q (mInv D cz qm σ1 H0) (F0 m (pc + 3) ls (rest))) : GW p l e R s m args below meth c Q (mInv D cz qm σ H0) (F0 m pc ls (.int v :: .ref qm :: rest)) := m_putI (ty := .int) K hF ha hw rfl rfl mfl_54 rfl rfl rfl rfl d kk
theorem mfl_55 : Cond.fieldLink RX4 419 (TX4 55).1 (TX4 55).2.1 (TX4 55).2.2.1 ∈ lw_all := q1561
theorem mget_55 (K : GX p m c cc nL s args meth D clM (tysM cz) ret RX4) (d : decode cc pc = .ok (.getfield 419, 3)) (kk : GW p l e R s m args below meth c Q (mInv D cz qm σ H0) (F0 m (pc + 3) ls (.int (gI σ 55) :: rest))) : GW p l e R s m args below meth c Q (mInv D cz qm σ H0) (F0 m pc ls (.ref qm :: rest)) := m_get (k := 55) K rfl mfl_55 rfl d kk
theorem mput_55 {v : Int32} {kf : MS → Option α} (K : GX p m c cc nL s args meth D clM (tysM cz) ret RX4) (hF : vlS (sI σ 55 v) kf = some r) (ha : ag w σ0 σ) (hw : w.1.contains 55 = true) (d : decode cc pc = .ok (.putfield 419, 3)) (kk : ∀ σ1, kf σ1 = some r → ag w σ0 σ1 → GW p l e R s m args below meth c Q (mInv D cz qm σ1 H0) (F0 m (pc + 3) ls (rest))) : GW p l e R s m args below meth c Q (mInv D cz qm σ H0) (F0 m pc ls (.int v :: .ref qm :: rest)) := m_putI (ty := .int) K hF ha hw rfl rfl mfl_55 rfl rfl rfl rfl d kk
theorem mfl_56 : Cond.fieldLink RX4 455 (TX4 56).1 (TX4 56).2.1 (TX4 56).2.2.1 ∈ lw_all := q1562
theorem mget_56 (K : GX p m c cc nL s args meth D clM (tysM cz) ret RX4) (d : decode cc pc = .ok (.getfield 455, 3)) (kk : GW p l e R s m args below meth c Q (mInv D cz qm σ H0) (F0 m (pc + 3) ls (.int (gI σ 56) :: rest))) : GW p l e R s m args below meth c Q (mInv D cz qm σ H0) (F0 m pc ls (.ref qm :: rest)) := m_get (k := 56) K rfl mfl_56 rfl d kk
theorem mput_56 {v : Int32} {kf : MS → Option α} (K : GX p m c cc nL s args meth D clM (tysM cz) ret RX4) (hF : vlS (sI σ 56 v) kf = some r) (ha : ag w σ0 σ) (hw : w.1.contains 56 = true) (d : decode cc pc = .ok (.putfield 455, 3)) (kk : ∀ σ1, kf σ1 = some r → ag w σ0 σ1 → GW p l e R s m args below meth c Q (mInv D cz qm σ1 H0) (F0 m (pc + 3) ls (rest))) : GW p l e R s m args below meth c Q (mInv D cz qm σ H0) (F0 m pc ls (.int v :: .ref qm :: rest)) := m_putI (ty := .int) K hF ha hw rfl rfl mfl_56 rfl rfl rfl rfl d kk
theorem mfl_57 : Cond.fieldLink RX4 458 (TX4 57).1 (TX4 57).2.1 (TX4 57).2.2.1 ∈ lw_all := q1563
theorem mget_57 (K : GX p m c cc nL s args meth D clM (tysM cz) ret RX4) (d : decode cc pc = .ok (.getfield 458, 3)) (kk : GW p l e R s m args below meth c Q (mInv D cz qm σ H0) (F0 m (pc + 3) ls (.int (gI σ 57) :: rest))) : GW p l e R s m args below meth c Q (mInv D cz qm σ H0) (F0 m pc ls (.ref qm :: rest)) := m_get (k := 57) K rfl mfl_57 rfl d kk
theorem mput_57 {v : Int32} {kf : MS → Option α} (K : GX p m c cc nL s args meth D clM (tysM cz) ret RX4) (hF : vlS (sI σ 57 v) kf = some r) (ha : ag w σ0 σ) (hw : w.1.contains 57 = true) (d : decode cc pc = .ok (.putfield 458, 3)) (kk : ∀ σ1, kf σ1 = some r → ag w σ0 σ1 → GW p l e R s m args below meth c Q (mInv D cz qm σ1 H0) (F0 m (pc + 3) ls (rest))) : GW p l e R s m args below meth c Q (mInv D cz qm σ H0) (F0 m pc ls (.int v :: .ref qm :: rest)) := m_putI (ty := .int) K hF ha hw rfl rfl mfl_57 rfl rfl rfl rfl d kk
theorem mfl_58 : Cond.fieldLink RX4 461 (TX4 58).1 (TX4 58).2.1 (TX4 58).2.2.1 ∈ lw_all := q1564
theorem mget_58 (K : GX p m c cc nL s args meth D clM (tysM cz) ret RX4) (d : decode cc pc = .ok (.getfield 461, 3)) (kk : GW p l e R s m args below meth c Q (mInv D cz qm σ H0) (F0 m (pc + 3) ls (.int (gI σ 58) :: rest))) : GW p l e R s m args below meth c Q (mInv D cz qm σ H0) (F0 m pc ls (.ref qm :: rest)) := m_get (k := 58) K rfl mfl_58 rfl d kk
theorem mput_58 {v : Int32} {kf : MS → Option α} (K : GX p m c cc nL s args meth D clM (tysM cz) ret RX4) (hF : vlS (sI σ 58 v) kf = some r) (ha : ag w σ0 σ) (hw : w.1.contains 58 = true) (d : decode cc pc = .ok (.putfield 461, 3)) (kk : ∀ σ1, kf σ1 = some r → ag w σ0 σ1 → GW p l e R s m args below meth c Q (mInv D cz qm σ1 H0) (F0 m (pc + 3) ls (rest))) : GW p l e R s m args below meth c Q (mInv D cz qm σ H0) (F0 m pc ls (.int v :: .ref qm :: rest)) := m_putI (ty := .int) K hF ha hw rfl rfl mfl_58 rfl rfl rfl rfl d kk
theorem mfl_59 : Cond.fieldLink RX4 464 (TX4 59).1 (TX4 59).2.1 (TX4 59).2.2.1 ∈ lw_all := q1565
theorem mget_59 (K : GX p m c cc nL s args meth D clM (tysM cz) ret RX4) (d : decode cc pc = .ok (.getfield 464, 3)) (kk : GW p l e R s m args below meth c Q (mInv D cz qm σ H0) (F0 m (pc + 3) ls (.int (gI σ 59) :: rest))) : GW p l e R s m args below meth c Q (mInv D cz qm σ H0) (F0 m pc ls (.ref qm :: rest)) := m_get (k := 59) K rfl mfl_59 rfl d kk
theorem mput_59 {v : Int32} {kf : MS → Option α} (K : GX p m c cc nL s args meth D clM (tysM cz) ret RX4) (hF : vlS (sI σ 59 v) kf = some r) (ha : ag w σ0 σ) (hw : w.1.contains 59 = true) (d : decode cc pc = .ok (.putfield 464, 3)) (kk : ∀ σ1, kf σ1 = some r → ag w σ0 σ1 → GW p l e R s m args below meth c Q (mInv D cz qm σ1 H0) (F0 m (pc + 3) ls (rest))) : GW p l e R s m args below meth c Q (mInv D cz qm σ H0) (F0 m pc ls (.int v :: .ref qm :: rest)) := m_putI (ty := .int) K hF ha hw rfl rfl mfl_59 rfl rfl rfl rfl d kk
theorem mfl_60 : Cond.fieldLink RX4 467 (TX4 60).1 (TX4 60).2.1 (TX4 60).2.2.1 ∈ lw_all := q1566
theorem mget_60 (K : GX p m c cc nL s args meth D clM (tysM cz) ret RX4) (d : decode cc pc = .ok (.getfield 467, 3)) (kk : GW p l e R s m args below meth c Q (mInv D cz qm σ H0) (F0 m (pc + 3) ls (.int (gI σ 60) :: rest))) : GW p l e R s m args below meth c Q (mInv D cz qm σ H0) (F0 m pc ls (.ref qm :: rest)) := m_get (k := 60) K rfl mfl_60 rfl d kk
theorem mput_60 {v : Int32} {kf : MS → Option α} (K : GX p m c cc nL s args meth D clM (tysM cz) ret RX4) (hF : vlS (sI σ 60 v) kf = some r) (ha : ag w σ0 σ) (hw : w.1.contains 60 = true) (d : decode cc pc = .ok (.putfield 467, 3)) (kk : ∀ σ1, kf σ1 = some r → ag w σ0 σ1 → GW p l e R s m args below meth c Q (mInv D cz qm σ1 H0) (F0 m (pc + 3) ls (rest))) : GW p l e R s m args below meth c Q (mInv D cz qm σ H0) (F0 m pc ls (.int v :: .ref qm :: rest)) := m_putI (ty := .int) K hF ha hw rfl rfl mfl_60 rfl rfl rfl rfl d kk
theorem mfl_61 : Cond.fieldLink RX4 470 (TX4 61).1 (TX4 61).2.1 (TX4 61).2.2.1 ∈ lw_all := q1567
theorem mget_61 (K : GX p m c cc nL s args meth D clM (tysM cz) ret RX4) (d : decode cc pc = .ok (.getfield 470, 3)) (kk : GW p l e R s m args below meth c Q (mInv D cz qm σ H0) (F0 m (pc + 3) ls (.int (gI σ 61) :: rest))) : GW p l e R s m args below meth c Q (mInv D cz qm σ H0) (F0 m pc ls (.ref qm :: rest)) := m_get (k := 61) K rfl mfl_61 rfl d kk
theorem mput_61 {v : Int32} {kf : MS → Option α} (K : GX p m c cc nL s args meth D clM (tysM cz) ret RX4) (hF : vlS (sI σ 61 v) kf = some r) (ha : ag w σ0 σ) (hw : w.1.contains 61 = true) (d : decode cc pc = .ok (.putfield 470, 3)) (kk : ∀ σ1, kf σ1 = some r → ag w σ0 σ1 → GW p l e R s m args below meth c Q (mInv D cz qm σ1 H0) (F0 m (pc + 3) ls (rest))) : GW p l e R s m args below meth c Q (mInv D cz qm σ H0) (F0 m pc ls (.int v :: .ref qm :: rest)) := m_putI (ty := .int) K hF ha hw rfl rfl mfl_61 rfl rfl rfl rfl d kk
theorem mfl_62 : Cond.fieldLink RX4 415 (TX4 62).1 (TX4 62).2.1 (TX4 62).2.2.1 ∈ lw_all := q1568
theorem mget_62 (K : GX p m c cc nL s args meth D clM (tysM cz) ret RX4) (d : decode cc pc = .ok (.getfield 415, 3)) (kk : GW p l e R s m args below meth c Q (mInv D cz qm σ H0) (F0 m (pc + 3) ls (.int (gI σ 62) :: rest))) : GW p l e R s m args below meth c Q (mInv D cz qm σ H0) (F0 m pc ls (.ref qm :: rest)) := m_get (k := 62) K rfl mfl_62 rfl d kk
theorem mput_62 {v : Int32} {kf : MS → Option α} (K : GX p m c cc nL s args meth D clM (tysM cz) ret RX4) (hF : vlS (sI σ 62 v) kf = some r) (ha : ag w σ0 σ) (hw : w.1.contains 62 = true) (hz : v = 0 ∨ v = 1) (d : decode cc pc = .ok (.putfield 415, 3)) (kk : ∀ σ1, kf σ1 = some r → ag w σ0 σ1 → GW p l e R s m args below meth c Q (mInv D cz qm σ1 H0) (F0 m (pc + 3) ls (rest))) : GW p l e R s m args below meth c Q (mInv D cz qm σ H0) (F0 m pc ls (.int v :: .ref qm :: rest)) := m_putI (ty := .boolean) K hF ha hw rfl rfl mfl_62 rfl rfl (show narrow .boolean (.int v) = .int v by show Value.int (v &&& 1) = .int v; rw [bz_and hz]) (by rcases hz with h | h <;> subst h <;> rfl) d kk
theorem mfl_63 : Cond.fieldLink RX4 422 (TX4 63).1 (TX4 63).2.1 (TX4 63).2.2.1 ∈ lw_all := q1569
theorem mget_63 (K : GX p m c cc nL s args meth D clM (tysM cz) ret RX4) (d : decode cc pc = .ok (.getfield 422, 3)) (kk : GW p l e R s m args below meth c Q (mInv D cz qm σ H0) (F0 m (pc + 3) ls (.int (gI σ 63) :: rest))) : GW p l e R s m args below meth c Q (mInv D cz qm σ H0) (F0 m pc ls (.ref qm :: rest)) := m_get (k := 63) K rfl mfl_63 rfl d kk
theorem mput_63 {v : Int32} {kf : MS → Option α} (K : GX p m c cc nL s args meth D clM (tysM cz) ret RX4) (hF : vlS (sI σ 63 v) kf = some r) (ha : ag w σ0 σ) (hw : w.1.contains 63 = true) (hz : v = 0 ∨ v = 1) (d : decode cc pc = .ok (.putfield 422, 3)) (kk : ∀ σ1, kf σ1 = some r → ag w σ0 σ1 → GW p l e R s m args below meth c Q (mInv D cz qm σ1 H0) (F0 m (pc + 3) ls (rest))) : GW p l e R s m args below meth c Q (mInv D cz qm σ H0) (F0 m pc ls (.int v :: .ref qm :: rest)) := m_putI (ty := .boolean) K hF ha hw rfl rfl mfl_63 rfl rfl (show narrow .boolean (.int v) = .int v by show Value.int (v &&& 1) = .int v; rw [bz_and hz]) (by rcases hz with h | h <;> subst h <;> rfl) d kk
theorem mfl_64 : Cond.fieldLink RX4 425 (TX4 64).1 (TX4 64).2.1 (TX4 64).2.2.1 ∈ lw_all := q1570
theorem mget_64 (K : GX p m c cc nL s args meth D clM (tysM cz) ret RX4) (d : decode cc pc = .ok (.getfield 425, 3)) (kk : GW p l e R s m args below meth c Q (mInv D cz qm σ H0) (F0 m (pc + 3) ls (.int (gI σ 64) :: rest))) : GW p l e R s m args below meth c Q (mInv D cz qm σ H0) (F0 m pc ls (.ref qm :: rest)) := m_get (k := 64) K rfl mfl_64 rfl d kk
theorem mput_64 {v : Int32} {kf : MS → Option α} (K : GX p m c cc nL s args meth D clM (tysM cz) ret RX4) (hF : vlS (sI σ 64 v) kf = some r) (ha : ag w σ0 σ) (hw : w.1.contains 64 = true) (d : decode cc pc = .ok (.putfield 425, 3)) (kk : ∀ σ1, kf σ1 = some r → ag w σ0 σ1 → GW p l e R s m args below meth c Q (mInv D cz qm σ1 H0) (F0 m (pc + 3) ls (rest))) : GW p l e R s m args below meth c Q (mInv D cz qm σ H0) (F0 m pc ls (.int v :: .ref qm :: rest)) := m_putI (ty := .int) K hF ha hw rfl rfl mfl_64 rfl rfl rfl rfl d kk
theorem mfl_65 : Cond.fieldLink RX4 118 (TX4 65).1 (TX4 65).2.1 (TX4 65).2.2.1 ∈ lw_all := q1571
theorem mget_65 (K : GX p m c cc nL s args meth D clM (tysM cz) ret RX4) (d : decode cc pc = .ok (.getfield 118, 3)) (kk : GW p l e R s m args below meth c Q (mInv D cz qm σ H0) (F0 m (pc + 3) ls (.int (gI σ 65) :: rest))) : GW p l e R s m args below meth c Q (mInv D cz qm σ H0) (F0 m pc ls (.ref qm :: rest)) := m_get (k := 65) K rfl mfl_65 rfl d kk
theorem mput_65 {v : Int32} {kf : MS → Option α} (K : GX p m c cc nL s args meth D clM (tysM cz) ret RX4) (hF : vlS (sI σ 65 v) kf = some r) (ha : ag w σ0 σ) (hw : w.1.contains 65 = true) (d : decode cc pc = .ok (.putfield 118, 3)) (kk : ∀ σ1, kf σ1 = some r → ag w σ0 σ1 → GW p l e R s m args below meth c Q (mInv D cz qm σ1 H0) (F0 m (pc + 3) ls (rest))) : GW p l e R s m args below meth c Q (mInv D cz qm σ H0) (F0 m pc ls (.int v :: .ref qm :: rest)) := m_putI (ty := .int) K hF ha hw rfl rfl mfl_65 rfl rfl rfl rfl d kk
theorem mfl_66 : Cond.fieldLink RX4 121 (TX4 66).1 (TX4 66).2.1 (TX4 66).2.2.1 ∈ lw_all := q1572
theorem mget_66 (K : GX p m c cc nL s args meth D clM (tysM cz) ret RX4) (d : decode cc pc = .ok (.getfield 121, 3)) (kk : GW p l e R s m args below meth c Q (mInv D cz qm σ H0) (F0 m (pc + 3) ls (.ref (mad qm 66) :: rest))) : GW p l e R s m args below meth c Q (mInv D cz qm σ H0) (F0 m pc ls (.ref qm :: rest)) := m_get (k := 66) K rfl mfl_66 rfl d kk
theorem mld_66 {i : Int32} {kf : Int32 → Option α} (K : GX p m c cc nL s args meth D clM (tysM cz) ret RX4) (hF : rdA σ 66 i kf = some r) (d : decode cc pc = .ok (.iaload, 1)) (kk : ∀ v, kf v = some r → GW p l e R s m args below meth c Q (mInv D cz qm σ H0) (F0 m (pc + 1) ls (.int v :: rest))) : GW p l e R s m args below meth c Q (mInv D cz qm σ H0) (F0 m pc ls (.int i :: .ref (mad qm 66) :: rest)) := m_iald K hF rfl rfl rfl d kk
theorem mst_66 {i : Int32} {v : Int32} {kf : MS → Option α} (K : GX p m c cc nL s args meth D clM (tysM cz) ret RX4) (hF : wrA σ 66 i v kf = some r) (ha : ag w σ0 σ) (hw : w.2.1.contains 66 = true) (d : decode cc pc = .ok (.iastore, 1)) (kk : ∀ σ1, kf σ1 = some r → ag w σ0 σ1 → GW p l e R s m args below meth c Q (mInv D cz qm σ1 H0) (F0 m (pc + 1) ls (rest))) : GW p l e R s m args below meth c Q (mInv D cz qm σ H0) (F0 m pc ls (.int v :: .int i :: .ref (mad qm 66) :: rest)) := m_iast K hF ha hw rfl rfl rfl d kk
theorem mfl_67 : Cond.fieldLink RX4 124 (TX4 67).1 (TX4 67).2.1 (TX4 67).2.2.1 ∈ lw_all := q1573
theorem mget_67 (K : GX p m c cc nL s args meth D clM (tysM cz) ret RX4) (d : decode cc pc = .ok (.getfield 124, 3)) (kk : GW p l e R s m args below meth c Q (mInv D cz qm σ H0) (F0 m (pc + 3) ls (.ref (mad qm 67) :: rest))) : GW p l e R s m args below meth c Q (mInv D cz qm σ H0) (F0 m pc ls (.ref qm :: rest)) := m_get (k := 67) K rfl mfl_67 rfl d kk
theorem mld_67 {i : Int32} {kf : Int32 → Option α} (K : GX p m c cc nL s args meth D clM (tysM cz) ret RX4) (hF : rdA σ 67 i kf = some r) (d : decode cc pc = .ok (.iaload, 1)) (kk : ∀ v, kf v = some r → GW p l e R s m args below meth c Q (mInv D cz qm σ H0) (F0 m (pc + 1) ls (.int v :: rest))) : GW p l e R s m args below meth c Q (mInv D cz qm σ H0) (F0 m pc ls (.int i :: .ref (mad qm 67) :: rest)) := m_iald K hF rfl rfl rfl d kk
theorem mst_67 {i : Int32} {v : Int32} {kf : MS → Option α} (K : GX p m c cc nL s args meth D clM (tysM cz) ret RX4) (hF : wrA σ 67 i v kf = some r) (ha : ag w σ0 σ) (hw : w.2.1.contains 67 = true) (d : decode cc pc = .ok (.iastore, 1)) (kk : ∀ σ1, kf σ1 = some r → ag w σ0 σ1 → GW p l e R s m args below meth c Q (mInv D cz qm σ1 H0) (F0 m (pc + 1) ls (rest))) : GW p l e R s m args below meth c Q (mInv D cz qm σ H0) (F0 m pc ls (.int v :: .int i :: .ref (mad qm 67) :: rest)) := m_iast K hF ha hw rfl rfl rfl d kk
theorem mfl_68 : Cond.fieldLink RX4 514 (TX4 68).1 (TX4 68).2.1 (TX4 68).2.2.1 ∈ lw_all := q1574
theorem mget_68 (K : GX p m c cc nL s args meth D clM (tysM cz) ret RX4) (d : decode cc pc = .ok (.getfield 514, 3)) (kk : GW p l e R s m args below meth c Q (mInv D cz qm σ H0) (F0 m (pc + 3) ls (.int (gI σ 68) :: rest))) : GW p l e R s m args below meth c Q (mInv D cz qm σ H0) (F0 m pc ls (.ref qm :: rest)) := m_get (k := 68) K rfl mfl_68 rfl d kk
theorem mput_68 {v : Int32} {kf : MS → Option α} (K : GX p m c cc nL s args meth D clM (tysM cz) ret RX4) (hF : vlS (sI σ 68 v) kf = some r) (ha : ag w σ0 σ) (hw : w.1.contains 68 = true) (d : decode cc pc = .ok (.putfield 514, 3)) (kk : ∀ σ1, kf σ1 = some r → ag w σ0 σ1 → GW p l e R s m args below meth c Q (mInv D cz qm σ1 H0) (F0 m (pc + 3) ls (rest))) : GW p l e R s m args below meth c Q (mInv D cz qm σ H0) (F0 m pc ls (.int v :: .ref qm :: rest)) := m_putI (ty := .int) K hF ha hw rfl rfl mfl_68 rfl rfl rfl rfl d kk
theorem mfl_69 : Cond.fieldLink RX4 517 (TX4 69).1 (TX4 69).2.1 (TX4 69).2.2.1 ∈ lw_all := q1575
theorem mget_69 (K : GX p m c cc nL s args meth D clM (tysM cz) ret RX4) (d : decode cc pc = .ok (.getfield 517, 3)) (kk : GW p l e R s m args below meth c Q (mInv D cz qm σ H0) (F0 m (pc + 3) ls (.int (gI σ 69) :: rest))) : GW p l e R s m args below meth c Q (mInv D cz qm σ H0) (F0 m pc ls (.ref qm :: rest)) := m_get (k := 69) K rfl mfl_69 rfl d kk
theorem mput_69 {v : Int32} {kf : MS → Option α} (K : GX p m c cc nL s args meth D clM (tysM cz) ret RX4) (hF : vlS (sI σ 69 v) kf = some r) (ha : ag w σ0 σ) (hw : w.1.contains 69 = true) (d : decode cc pc = .ok (.putfield 517, 3)) (kk : ∀ σ1, kf σ1 = some r → ag w σ0 σ1 → GW p l e R s m args below meth c Q (mInv D cz qm σ1 H0) (F0 m (pc + 3) ls (rest))) : GW p l e R s m args below meth c Q (mInv D cz qm σ H0) (F0 m pc ls (.int v :: .ref qm :: rest)) := m_putI (ty := .int) K hF ha hw rfl rfl mfl_69 rfl rfl rfl rfl d kk
theorem mfl_70 : Cond.fieldLink RX4 127 (TX4 70).1 (TX4 70).2.1 (TX4 70).2.2.1 ∈ lw_all := q1576
theorem mget_70 (K : GX p m c cc nL s args meth D clM (tysM cz) ret RX4) (d : decode cc pc = .ok (.getfield 127, 3)) (kk : GW p l e R s m args below meth c Q (mInv D cz qm σ H0) (F0 m (pc + 3) ls (.ref (mad qm 70) :: rest))) : GW p l e R s m args below meth c Q (mInv D cz qm σ H0) (F0 m pc ls (.ref qm :: rest)) := m_get (k := 70) K rfl mfl_70 rfl d kk
theorem mld_70 {i : Int32} {kf : Int32 → Option α} (K : GX p m c cc nL s args meth D clM (tysM cz) ret RX4) (hF : rdA σ 70 i kf = some r) (d : decode cc pc = .ok (.iaload, 1)) (kk : ∀ v, kf v = some r → GW p l e R s m args below meth c Q (mInv D cz qm σ H0) (F0 m (pc + 1) ls (.int v :: rest))) : GW p l e R s m args below meth c Q (mInv D cz qm σ H0) (F0 m pc ls (.int i :: .ref (mad qm 70) :: rest)) := m_iald K hF rfl rfl rfl d kk
theorem mst_70 {i : Int32} {v : Int32} {kf : MS → Option α} (K : GX p m c cc nL s args meth D clM (tysM cz) ret RX4) (hF : wrA σ 70 i v kf = some r) (ha : ag w σ0 σ) (hw : w.2.1.contains 70 = true) (d : decode cc pc = .ok (.iastore, 1)) (kk : ∀ σ1, kf σ1 = some r → ag w σ0 σ1 → GW p l e R s m args below meth c Q (mInv D cz qm σ1 H0) (F0 m (pc + 1) ls (rest))) : GW p l e R s m args below meth c Q (mInv D cz qm σ H0) (F0 m pc ls (.int v :: .int i :: .ref (mad qm 70) :: rest)) := m_iast K hF ha hw rfl rfl rfl d kk
theorem mfl_71 : Cond.fieldLink RX4 482 (TX4 71).1 (TX4 71).2.1 (TX4 71).2.2.1 ∈ lw_all := q1577
theorem mget_71 (K : GX p m c cc nL s args meth D clM (tysM cz) ret RX4) (d : decode cc pc = .ok (.getfield 482, 3)) (kk : GW p l e R s m args below meth c Q (mInv D cz qm σ H0) (F0 m (pc + 3) ls (.int (gI σ 71) :: rest))) : GW p l e R s m args below meth c Q (mInv D cz qm σ H0) (F0 m pc ls (.ref qm :: rest)) := m_get (k := 71) K rfl mfl_71 rfl d kk
theorem mput_71 {v : Int32} {kf : MS → Option α} (K : GX p m c cc nL s args meth D clM (tysM cz) ret RX4) (hF : vlS (sI σ 71 v) kf = some r) (ha : ag w σ0 σ) (hw : w.1.contains 71 = true) (d : decode cc pc = .ok (.putfield 482, 3)) (kk : ∀ σ1, kf σ1 = some r → ag w σ0 σ1 → GW p l e R s m args below meth c Q (mInv D cz qm σ1 H0) (F0 m (pc + 3) ls (rest))) : GW p l e R s m args below meth c Q (mInv D cz qm σ H0) (F0 m pc ls (.int v :: .ref qm :: rest)) := m_putI (ty := .int) K hF ha hw rfl rfl mfl_71 rfl rfl rfl rfl d kk
theorem mfl_72 : Cond.fieldLink RX4 485 (TX4 72).1 (TX4 72).2.1 (TX4 72).2.2.1 ∈ lw_all := q1578
theorem mget_72 (K : GX p m c cc nL s args meth D clM (tysM cz) ret RX4) (d : decode cc pc = .ok (.getfield 485, 3)) (kk : GW p l e R s m args below meth c Q (mInv D cz qm σ H0) (F0 m (pc + 3) ls (.int (gI σ 72) :: rest))) : GW p l e R s m args below meth c Q (mInv D cz qm σ H0) (F0 m pc ls (.ref qm :: rest)) := m_get (k := 72) K rfl mfl_72 rfl d kk
theorem mput_72 {v : Int32} {kf : MS → Option α} (K : GX p m c cc nL s args meth D clM (tysM cz) ret RX4) (hF : vlS (sI σ 72 v) kf = some r) (ha : ag w σ0 σ) (hw : w.1.contains 72 = true) (d : decode cc pc = .ok (.putfield 485, 3)) (kk : ∀ σ1, kf σ1 = some r → ag w σ0 σ1 → GW p l e R s m args below meth c Q (mInv D cz qm σ1 H0) (F0 m (pc + 3) ls (rest))) : GW p l e R s m args below meth c Q (mInv D cz qm σ H0) (F0 m pc ls (.int v :: .ref qm :: rest)) := m_putI (ty := .int) K hF ha hw rfl rfl mfl_72 rfl rfl rfl rfl d kk
theorem mfl_73 : Cond.fieldLink RX4 130 (TX4 73).1 (TX4 73).2.1 (TX4 73).2.2.1 ∈ lw_all := q1579
theorem mget_73 (K : GX p m c cc nL s args meth D clM (tysM cz) ret RX4) (d : decode cc pc = .ok (.getfield 130, 3)) (kk : GW p l e R s m args below meth c Q (mInv D cz qm σ H0) (F0 m (pc + 3) ls (.ref (mad qm 73) :: rest))) : GW p l e R s m args below meth c Q (mInv D cz qm σ H0) (F0 m pc ls (.ref qm :: rest)) := m_get (k := 73) K rfl mfl_73 rfl d kk
theorem mld_73 {i : Int32} {kf : Int32 → Option α} (K : GX p m c cc nL s args meth D clM (tysM cz) ret RX4) (hF : rdA σ 73 i kf = some r) (d : decode cc pc = .ok (.iaload, 1)) (kk : ∀ v, kf v = some r → GW p l e R s m args below meth c Q (mInv D cz qm σ H0) (F0 m (pc + 1) ls (.int v :: rest))) : GW p l e R s m args below meth c Q (mInv D cz qm σ H0) (F0 m pc ls (.int i :: .ref (mad qm 73) :: rest)) := m_iald K hF rfl rfl rfl d kk
theorem mst_73 {i : Int32} {v : Int32} {kf : MS → Option α} (K : GX p m c cc nL s args meth D clM (tysM cz) ret RX4) (hF : wrA σ 73 i v kf = some r) (ha : ag w σ0 σ) (hw : w.2.1.contains 73 = true) (d : decode cc pc = .ok (.iastore, 1)) (kk : ∀ σ1, kf σ1 = some r → ag w σ0 σ1 → GW p l e R s m args below meth c Q (mInv D cz qm σ1 H0) (F0 m (pc + 1) ls (rest))) : GW p l e R s m args below meth c Q (mInv D cz qm σ H0) (F0 m pc ls (.int v :: .int i :: .ref (mad qm 73) :: rest)) := m_iast K hF ha hw rfl rfl rfl d kk
theorem mfl_74 : Cond.fieldLink RX4 133 (TX4 74).1 (TX4 74).2.1 (TX4 74).2.2.1 ∈ lw_all := q1580
theorem mget_74 (K : GX p m c cc nL s args meth D clM (tysM cz) ret RX4) (d : decode cc pc = .ok (.getfield 133, 3)) (kk : GW p l e R s m args below meth c Q (mInv D cz qm σ H0) (F0 m (pc + 3) ls (.ref (mad qm 74) :: rest))) : GW p l e R s m args below meth c Q (mInv D cz qm σ H0) (F0 m pc ls (.ref qm :: rest)) := m_get (k := 74) K rfl mfl_74 rfl d kk
theorem mld_74 {i : Int32} {kf : Int32 → Option α} (K : GX p m c cc nL s args meth D clM (tysM cz) ret RX4) (hF : rdA σ 74 i kf = some r) (d : decode cc pc = .ok (.iaload, 1)) (kk : ∀ v, kf v = some r → GW p l e R s m args below meth c Q (mInv D cz qm σ H0) (F0 m (pc + 1) ls (.int v :: rest))) : GW p l e R s m args below meth c Q (mInv D cz qm σ H0) (F0 m pc ls (.int i :: .ref (mad qm 74) :: rest)) := m_iald K hF rfl rfl rfl d kk
theorem mst_74 {i : Int32} {v : Int32} {kf : MS → Option α} (K : GX p m c cc nL s args meth D clM (tysM cz) ret RX4) (hF : wrA σ 74 i v kf = some r) (ha : ag w σ0 σ) (hw : w.2.1.contains 74 = true) (d : decode cc pc = .ok (.iastore, 1)) (kk : ∀ σ1, kf σ1 = some r → ag w σ0 σ1 → GW p l e R s m args below meth c Q (mInv D cz qm σ1 H0) (F0 m (pc + 1) ls (rest))) : GW p l e R s m args below meth c Q (mInv D cz qm σ H0) (F0 m pc ls (.int v :: .int i :: .ref (mad qm 74) :: rest)) := m_iast K hF ha hw rfl rfl rfl d kk
theorem mfl_75 : Cond.fieldLink RX4 136 (TX4 75).1 (TX4 75).2.1 (TX4 75).2.2.1 ∈ lw_all := q1581
theorem mget_75 (K : GX p m c cc nL s args meth D clM (tysM cz) ret RX4) (d : decode cc pc = .ok (.getfield 136, 3)) (kk : GW p l e R s m args below meth c Q (mInv D cz qm σ H0) (F0 m (pc + 3) ls (.ref (mad qm 75) :: rest))) : GW p l e R s m args below meth c Q (mInv D cz qm σ H0) (F0 m pc ls (.ref qm :: rest)) := m_get (k := 75) K rfl mfl_75 rfl d kk
theorem mld_75 {i : Int32} {kf : Int32 → Option α} (K : GX p m c cc nL s args meth D clM (tysM cz) ret RX4) (hF : rdA σ 75 i kf = some r) (d : decode cc pc = .ok (.iaload, 1)) (kk : ∀ v, kf v = some r → GW p l e R s m args below meth c Q (mInv D cz qm σ H0) (F0 m (pc + 1) ls (.int v :: rest))) : GW p l e R s m args below meth c Q (mInv D cz qm σ H0) (F0 m pc ls (.int i :: .ref (mad qm 75) :: rest)) := m_iald K hF rfl rfl rfl d kk
theorem mst_75 {i : Int32} {v : Int32} {kf : MS → Option α} (K : GX p m c cc nL s args meth D clM (tysM cz) ret RX4) (hF : wrA σ 75 i v kf = some r) (ha : ag w σ0 σ) (hw : w.2.1.contains 75 = true) (d : decode cc pc = .ok (.iastore, 1)) (kk : ∀ σ1, kf σ1 = some r → ag w σ0 σ1 → GW p l e R s m args below meth c Q (mInv D cz qm σ1 H0) (F0 m (pc + 1) ls (rest))) : GW p l e R s m args below meth c Q (mInv D cz qm σ H0) (F0 m pc ls (.int v :: .int i :: .ref (mad qm 75) :: rest)) := m_iast K hF ha hw rfl rfl rfl d kk
theorem mfl_76 : Cond.fieldLink RX4 139 (TX4 76).1 (TX4 76).2.1 (TX4 76).2.2.1 ∈ lw_all := q1582
theorem mget_76 (K : GX p m c cc nL s args meth D clM (tysM cz) ret RX4) (d : decode cc pc = .ok (.getfield 139, 3)) (kk : GW p l e R s m args below meth c Q (mInv D cz qm σ H0) (F0 m (pc + 3) ls (.ref (mad qm 76) :: rest))) : GW p l e R s m args below meth c Q (mInv D cz qm σ H0) (F0 m pc ls (.ref qm :: rest)) := m_get (k := 76) K rfl mfl_76 rfl d kk
theorem mld_76 {i : Int32} {kf : Int32 → Option α} (K : GX p m c cc nL s args meth D clM (tysM cz) ret RX4) (hF : rdA σ 76 i kf = some r) (d : decode cc pc = .ok (.iaload, 1)) (kk : ∀ v, kf v = some r → GW p l e R s m args below meth c Q (mInv D cz qm σ H0) (F0 m (pc + 1) ls (.int v :: rest))) : GW p l e R s m args below meth c Q (mInv D cz qm σ H0) (F0 m pc ls (.int i :: .ref (mad qm 76) :: rest)) := m_iald K hF rfl rfl rfl d kk
theorem mst_76 {i : Int32} {v : Int32} {kf : MS → Option α} (K : GX p m c cc nL s args meth D clM (tysM cz) ret RX4) (hF : wrA σ 76 i v kf = some r) (ha : ag w σ0 σ) (hw : w.2.1.contains 76 = true) (d : decode cc pc = .ok (.iastore, 1)) (kk : ∀ σ1, kf σ1 = some r → ag w σ0 σ1 → GW p l e R s m args below meth c Q (mInv D cz qm σ1 H0) (F0 m (pc + 1) ls (rest))) : GW p l e R s m args below meth c Q (mInv D cz qm σ H0) (F0 m pc ls (.int v :: .int i :: .ref (mad qm 76) :: rest)) := m_iast K hF ha hw rfl rfl rfl d kk
theorem mfl_77 : Cond.fieldLink RX4 142 (TX4 77).1 (TX4 77).2.1 (TX4 77).2.2.1 ∈ lw_all := q1583
theorem mget_77 (K : GX p m c cc nL s args meth D clM (tysM cz) ret RX4) (d : decode cc pc = .ok (.getfield 142, 3)) (kk : GW p l e R s m args below meth c Q (mInv D cz qm σ H0) (F0 m (pc + 3) ls (.ref (mad qm 77) :: rest))) : GW p l e R s m args below meth c Q (mInv D cz qm σ H0) (F0 m pc ls (.ref qm :: rest)) := m_get (k := 77) K rfl mfl_77 rfl d kk
theorem mld_77 {i : Int32} {kf : Int32 → Option α} (K : GX p m c cc nL s args meth D clM (tysM cz) ret RX4) (hF : rdA σ 77 i kf = some r) (d : decode cc pc = .ok (.iaload, 1)) (kk : ∀ v, kf v = some r → GW p l e R s m args below meth c Q (mInv D cz qm σ H0) (F0 m (pc + 1) ls (.int v :: rest))) : GW p l e R s m args below meth c Q (mInv D cz qm σ H0) (F0 m pc ls (.int i :: .ref (mad qm 77) :: rest)) := m_iald K hF rfl rfl rfl d kk
theorem mst_77 {i : Int32} {v : Int32} {kf : MS → Option α} (K : GX p m c cc nL s args meth D clM (tysM cz) ret RX4) (hF : wrA σ 77 i v kf = some r) (ha : ag w σ0 σ) (hw : w.2.1.contains 77 = true) (d : decode cc pc = .ok (.iastore, 1)) (kk : ∀ σ1, kf σ1 = some r → ag w σ0 σ1 → GW p l e R s m args below meth c Q (mInv D cz qm σ1 H0) (F0 m (pc + 1) ls (rest))) : GW p l e R s m args below meth c Q (mInv D cz qm σ H0) (F0 m pc ls (.int v :: .int i :: .ref (mad qm 77) :: rest)) := m_iast K hF ha hw rfl rfl rfl d kk
theorem mfl_78 : Cond.fieldLink RX4 145 (TX4 78).1 (TX4 78).2.1 (TX4 78).2.2.1 ∈ lw_all := q1584
theorem mget_78 (K : GX p m c cc nL s args meth D clM (tysM cz) ret RX4) (d : decode cc pc = .ok (.getfield 145, 3)) (kk : GW p l e R s m args below meth c Q (mInv D cz qm σ H0) (F0 m (pc + 3) ls (.ref (mad qm 78) :: rest))) : GW p l e R s m args below meth c Q (mInv D cz qm σ H0) (F0 m pc ls (.ref qm :: rest)) := m_get (k := 78) K rfl mfl_78 rfl d kk
theorem mld_78 {i : Int32} {kf : Int32 → Option α} (K : GX p m c cc nL s args meth D clM (tysM cz) ret RX4) (hF : rdA σ 78 i kf = some r) (d : decode cc pc = .ok (.iaload, 1)) (kk : ∀ v, kf v = some r → GW p l e R s m args below meth c Q (mInv D cz qm σ H0) (F0 m (pc + 1) ls (.int v :: rest))) : GW p l e R s m args below meth c Q (mInv D cz qm σ H0) (F0 m pc ls (.int i :: .ref (mad qm 78) :: rest)) := m_iald K hF rfl rfl rfl d kk
theorem mst_78 {i : Int32} {v : Int32} {kf : MS → Option α} (K : GX p m c cc nL s args meth D clM (tysM cz) ret RX4) (hF : wrA σ 78 i v kf = some r) (ha : ag w σ0 σ) (hw : w.2.1.contains 78 = true) (d : decode cc pc = .ok (.iastore, 1)) (kk : ∀ σ1, kf σ1 = some r → ag w σ0 σ1 → GW p l e R s m args below meth c Q (mInv D cz qm σ1 H0) (F0 m (pc + 1) ls (rest))) : GW p l e R s m args below meth c Q (mInv D cz qm σ H0) (F0 m pc ls (.int v :: .int i :: .ref (mad qm 78) :: rest)) := m_iast K hF ha hw rfl rfl rfl d kk
theorem mfl_79 : Cond.fieldLink RX4 148 (TX4 79).1 (TX4 79).2.1 (TX4 79).2.2.1 ∈ lw_all := q1585
theorem mget_79 (K : GX p m c cc nL s args meth D clM (tysM cz) ret RX4) (d : decode cc pc = .ok (.getfield 148, 3)) (kk : GW p l e R s m args below meth c Q (mInv D cz qm σ H0) (F0 m (pc + 3) ls (.ref (mad qm 79) :: rest))) : GW p l e R s m args below meth c Q (mInv D cz qm σ H0) (F0 m pc ls (.ref qm :: rest)) := m_get (k := 79) K rfl mfl_79 rfl d kk
theorem mld_79 {i : Int32} {kf : Int32 → Option α} (K : GX p m c cc nL s args meth D clM (tysM cz) ret RX4) (hF : rdA σ 79 i kf = some r) (d : decode cc pc = .ok (.iaload, 1)) (kk : ∀ v, kf v = some r → GW p l e R s m args below meth c Q (mInv D cz qm σ H0) (F0 m (pc + 1) ls (.int v :: rest))) : GW p l e R s m args below meth c Q (mInv D cz qm σ H0) (F0 m pc ls (.int i :: .ref (mad qm 79) :: rest)) := m_iald K hF rfl rfl rfl d kk
theorem mst_79 {i : Int32} {v : Int32} {kf : MS → Option α} (K : GX p m c cc nL s args meth D clM (tysM cz) ret RX4) (hF : wrA σ 79 i v kf = some r) (ha : ag w σ0 σ) (hw : w.2.1.contains 79 = true) (d : decode cc pc = .ok (.iastore, 1)) (kk : ∀ σ1, kf σ1 = some r → ag w σ0 σ1 → GW p l e R s m args below meth c Q (mInv D cz qm σ1 H0) (F0 m (pc + 1) ls (rest))) : GW p l e R s m args below meth c Q (mInv D cz qm σ H0) (F0 m pc ls (.int v :: .int i :: .ref (mad qm 79) :: rest)) := m_iast K hF ha hw rfl rfl rfl d kk
theorem mfl_80 : Cond.fieldLink RX4 590 (TX4 80).1 (TX4 80).2.1 (TX4 80).2.2.1 ∈ lw_all := q1586
theorem mget_80 (K : GX p m c cc nL s args meth D clM (tysM cz) ret RX4) (d : decode cc pc = .ok (.getfield 590, 3)) (kk : GW p l e R s m args below meth c Q (mInv D cz qm σ H0) (F0 m (pc + 3) ls (.int (gI σ 80) :: rest))) : GW p l e R s m args below meth c Q (mInv D cz qm σ H0) (F0 m pc ls (.ref qm :: rest)) := m_get (k := 80) K rfl mfl_80 rfl d kk
theorem mput_80 {v : Int32} {kf : MS → Option α} (K : GX p m c cc nL s args meth D clM (tysM cz) ret RX4) (hF : vlS (sI σ 80 v) kf = some r) (ha : ag w σ0 σ) (hw : w.1.contains 80 = true) (d : decode cc pc = .ok (.putfield 590, 3)) (kk : ∀ σ1, kf σ1 = some r → ag w σ0 σ1 → GW p l e R s m args below meth c Q (mInv D cz qm σ1 H0) (F0 m (pc + 3) ls (rest))) : GW p l e R s m args below meth c Q (mInv D cz qm σ H0) (F0 m pc ls (.int v :: .ref qm :: rest)) := m_putI (ty := .int) K hF ha hw rfl rfl mfl_80 rfl rfl rfl rfl d kk
theorem mfl_81 : Cond.fieldLink RX4 151 (TX4 81).1 (TX4 81).2.1 (TX4 81).2.2.1 ∈ lw_all := q1587
theorem mget_81 (K : GX p m c cc nL s args meth D clM (tysM cz) ret RX4) (d : decode cc pc = .ok (.getfield 151, 3)) (kk : GW p l e R s m args below meth c Q (mInv D cz qm σ H0) (F0 m (pc + 3) ls (.ref (mad qm 81) :: rest))) : GW p l e R s m args below meth c Q (mInv D cz qm σ H0) (F0 m pc ls (.ref qm :: rest)) := m_get (k := 81) K rfl mfl_81 rfl d kk
theorem mld_81 {i : Int32} {kf : Int32 → Option α} (K : GX p m c cc nL s args meth D clM (tysM cz) ret RX4) (hF : rdA σ 81 i kf = some r) (d : decode cc pc = .ok (.iaload, 1)) (kk : ∀ v, kf v = some r → GW p l e R s m args below meth c Q (mInv D cz qm σ H0) (F0 m (pc + 1) ls (.int v :: rest))) : GW p l e R s m args below meth c Q (mInv D cz qm σ H0) (F0 m pc ls (.int i :: .ref (mad qm 81) :: rest)) := m_iald K hF rfl rfl rfl d kk
theorem mst_81 {i : Int32} {v : Int32} {kf : MS → Option α} (K : GX p m c cc nL s args meth D clM (tysM cz) ret RX4) (hF : wrA σ 81 i v kf = some r) (ha : ag w σ0 σ) (hw : w.2.1.contains 81 = true) (d : decode cc pc = .ok (.iastore, 1)) (kk : ∀ σ1, kf σ1 = some r → ag w σ0 σ1 → GW p l e R s m args below meth c Q (mInv D cz qm σ1 H0) (F0 m (pc + 1) ls (rest))) : GW p l e R s m args below meth c Q (mInv D cz qm σ H0) (F0 m pc ls (.int v :: .int i :: .ref (mad qm 81) :: rest)) := m_iast K hF ha hw rfl rfl rfl d kk
theorem mfl_82 : Cond.fieldLink RX4 154 (TX4 82).1 (TX4 82).2.1 (TX4 82).2.2.1 ∈ lw_all := q1588
theorem mget_82 (K : GX p m c cc nL s args meth D clM (tysM cz) ret RX4) (d : decode cc pc = .ok (.getfield 154, 3)) (kk : GW p l e R s m args below meth c Q (mInv D cz qm σ H0) (F0 m (pc + 3) ls (.ref (mad qm 82) :: rest))) : GW p l e R s m args below meth c Q (mInv D cz qm σ H0) (F0 m pc ls (.ref qm :: rest)) := m_get (k := 82) K rfl mfl_82 rfl d kk
theorem mld_82 {i : Int32} {kf : Int32 → Option α} (K : GX p m c cc nL s args meth D clM (tysM cz) ret RX4) (hF : rdA σ 82 i kf = some r) (d : decode cc pc = .ok (.iaload, 1)) (kk : ∀ v, kf v = some r → GW p l e R s m args below meth c Q (mInv D cz qm σ H0) (F0 m (pc + 1) ls (.int v :: rest))) : GW p l e R s m args below meth c Q (mInv D cz qm σ H0) (F0 m pc ls (.int i :: .ref (mad qm 82) :: rest)) := m_iald K hF rfl rfl rfl d kk
theorem mst_82 {i : Int32} {v : Int32} {kf : MS → Option α} (K : GX p m c cc nL s args meth D clM (tysM cz) ret RX4) (hF : wrA σ 82 i v kf = some r) (ha : ag w σ0 σ) (hw : w.2.1.contains 82 = true) (d : decode cc pc = .ok (.iastore, 1)) (kk : ∀ σ1, kf σ1 = some r → ag w σ0 σ1 → GW p l e R s m args below meth c Q (mInv D cz qm σ1 H0) (F0 m (pc + 1) ls (rest))) : GW p l e R s m args below meth c Q (mInv D cz qm σ H0) (F0 m pc ls (.int v :: .int i :: .ref (mad qm 82) :: rest)) := m_iast K hF ha hw rfl rfl rfl d kk
theorem mfl_83 : Cond.fieldLink RX4 157 (TX4 83).1 (TX4 83).2.1 (TX4 83).2.2.1 ∈ lw_all := q1589
theorem mget_83 (K : GX p m c cc nL s args meth D clM (tysM cz) ret RX4) (d : decode cc pc = .ok (.getfield 157, 3)) (kk : GW p l e R s m args below meth c Q (mInv D cz qm σ H0) (F0 m (pc + 3) ls (.ref (mad qm 83) :: rest))) : GW p l e R s m args below meth c Q (mInv D cz qm σ H0) (F0 m pc ls (.ref qm :: rest)) := m_get (k := 83) K rfl mfl_83 rfl d kk
theorem mld_83 {i : Int32} {kf : Int32 → Option α} (K : GX p m c cc nL s args meth D clM (tysM cz) ret RX4) (hF : rdA σ 83 i kf = some r) (d : decode cc pc = .ok (.iaload, 1)) (kk : ∀ v, kf v = some r → GW p l e R s m args below meth c Q (mInv D cz qm σ H0) (F0 m (pc + 1) ls (.int v :: rest))) : GW p l e R s m args below meth c Q (mInv D cz qm σ H0) (F0 m pc ls (.int i :: .ref (mad qm 83) :: rest)) := m_iald K hF rfl rfl rfl d kk
theorem mst_83 {i : Int32} {v : Int32} {kf : MS → Option α} (K : GX p m c cc nL s args meth D clM (tysM cz) ret RX4) (hF : wrA σ 83 i v kf = some r) (ha : ag w σ0 σ) (hw : w.2.1.contains 83 = true) (d : decode cc pc = .ok (.iastore, 1)) (kk : ∀ σ1, kf σ1 = some r → ag w σ0 σ1 → GW p l e R s m args below meth c Q (mInv D cz qm σ1 H0) (F0 m (pc + 1) ls (rest))) : GW p l e R s m args below meth c Q (mInv D cz qm σ H0) (F0 m pc ls (.int v :: .int i :: .ref (mad qm 83) :: rest)) := m_iast K hF ha hw rfl rfl rfl d kk
theorem mfl_84 : Cond.fieldLink RX4 160 (TX4 84).1 (TX4 84).2.1 (TX4 84).2.2.1 ∈ lw_all := q1590
theorem mget_84 (K : GX p m c cc nL s args meth D clM (tysM cz) ret RX4) (d : decode cc pc = .ok (.getfield 160, 3)) (kk : GW p l e R s m args below meth c Q (mInv D cz qm σ H0) (F0 m (pc + 3) ls (.ref (mad qm 84) :: rest))) : GW p l e R s m args below meth c Q (mInv D cz qm σ H0) (F0 m pc ls (.ref qm :: rest)) := m_get (k := 84) K rfl mfl_84 rfl d kk
theorem mld_84 {i : Int32} {kf : Int32 → Option α} (K : GX p m c cc nL s args meth D clM (tysM cz) ret RX4) (hF : rdA σ 84 i kf = some r) (d : decode cc pc = .ok (.iaload, 1)) (kk : ∀ v, kf v = some r → GW p l e R s m args below meth c Q (mInv D cz qm σ H0) (F0 m (pc + 1) ls (.int v :: rest))) : GW p l e R s m args below meth c Q (mInv D cz qm σ H0) (F0 m pc ls (.int i :: .ref (mad qm 84) :: rest)) := m_iald K hF rfl rfl rfl d kk
theorem mst_84 {i : Int32} {v : Int32} {kf : MS → Option α} (K : GX p m c cc nL s args meth D clM (tysM cz) ret RX4) (hF : wrA σ 84 i v kf = some r) (ha : ag w σ0 σ) (hw : w.2.1.contains 84 = true) (d : decode cc pc = .ok (.iastore, 1)) (kk : ∀ σ1, kf σ1 = some r → ag w σ0 σ1 → GW p l e R s m args below meth c Q (mInv D cz qm σ1 H0) (F0 m (pc + 1) ls (rest))) : GW p l e R s m args below meth c Q (mInv D cz qm σ H0) (F0 m pc ls (.int v :: .int i :: .ref (mad qm 84) :: rest)) := m_iast K hF ha hw rfl rfl rfl d kk
theorem mfl_85 : Cond.fieldLink RX4 491 (TX4 85).1 (TX4 85).2.1 (TX4 85).2.2.1 ∈ lw_all := q1591
theorem mget_85 (K : GX p m c cc nL s args meth D clM (tysM cz) ret RX4) (d : decode cc pc = .ok (.getfield 491, 3)) (kk : GW p l e R s m args below meth c Q (mInv D cz qm σ H0) (F0 m (pc + 3) ls (.int (gI σ 85) :: rest))) : GW p l e R s m args below meth c Q (mInv D cz qm σ H0) (F0 m pc ls (.ref qm :: rest)) := m_get (k := 85) K rfl mfl_85 rfl d kk
theorem mput_85 {v : Int32} {kf : MS → Option α} (K : GX p m c cc nL s args meth D clM (tysM cz) ret RX4) (hF : vlS (sI σ 85 v) kf = some r) (ha : ag w σ0 σ) (hw : w.1.contains 85 = true) (d : decode cc pc = .ok (.putfield 491, 3)) (kk : ∀ σ1, kf σ1 = some r → ag w σ0 σ1 → GW p l e R s m args below meth c Q (mInv D cz qm σ1 H0) (F0 m (pc + 3) ls (rest))) : GW p l e R s m args below meth c Q (mInv D cz qm σ H0) (F0 m pc ls (.int v :: .ref qm :: rest)) := m_putI (ty := .int) K hF ha hw rfl rfl mfl_85 rfl rfl rfl rfl d kk
theorem mfl_86 : Cond.fieldLink RX4 163 (TX4 86).1 (TX4 86).2.1 (TX4 86).2.2.1 ∈ lw_all := q1592
theorem mget_86 (K : GX p m c cc nL s args meth D clM (tysM cz) ret RX4) (d : decode cc pc = .ok (.getfield 163, 3)) (kk : GW p l e R s m args below meth c Q (mInv D cz qm σ H0) (F0 m (pc + 3) ls (.ref (mad qm 86) :: rest))) : GW p l e R s m args below meth c Q (mInv D cz qm σ H0) (F0 m pc ls (.ref qm :: rest)) := m_get (k := 86) K rfl mfl_86 rfl d kk
theorem mld_86 {i : Int32} {kf : Int32 → Option α} (K : GX p m c cc nL s args meth D clM (tysM cz) ret RX4) (hF : rdA σ 86 i kf = some r) (d : decode cc pc = .ok (.iaload, 1)) (kk : ∀ v, kf v = some r → GW p l e R s m args below meth c Q (mInv D cz qm σ H0) (F0 m (pc + 1) ls (.int v :: rest))) : GW p l e R s m args below meth c Q (mInv D cz qm σ H0) (F0 m pc ls (.int i :: .ref (mad qm 86) :: rest)) := m_iald K hF rfl rfl rfl d kk
theorem mst_86 {i : Int32} {v : Int32} {kf : MS → Option α} (K : GX p m c cc nL s args meth D clM (tysM cz) ret RX4) (hF : wrA σ 86 i v kf = some r) (ha : ag w σ0 σ) (hw : w.2.1.contains 86 = true) (d : decode cc pc = .ok (.iastore, 1)) (kk : ∀ σ1, kf σ1 = some r → ag w σ0 σ1 → GW p l e R s m args below meth c Q (mInv D cz qm σ1 H0) (F0 m (pc + 1) ls (rest))) : GW p l e R s m args below meth c Q (mInv D cz qm σ H0) (F0 m pc ls (.int v :: .int i :: .ref (mad qm 86) :: rest)) := m_iast K hF ha hw rfl rfl rfl d kk
theorem mfl_87 : Cond.fieldLink RX4 166 (TX4 87).1 (TX4 87).2.1 (TX4 87).2.2.1 ∈ lw_all := q1593
theorem mget_87 (K : GX p m c cc nL s args meth D clM (tysM cz) ret RX4) (d : decode cc pc = .ok (.getfield 166, 3)) (kk : GW p l e R s m args below meth c Q (mInv D cz qm σ H0) (F0 m (pc + 3) ls (.ref (mad qm 87) :: rest))) : GW p l e R s m args below meth c Q (mInv D cz qm σ H0) (F0 m pc ls (.ref qm :: rest)) := m_get (k := 87) K rfl mfl_87 rfl d kk
theorem mld_87 {i : Int32} {kf : Int32 → Option α} (K : GX p m c cc nL s args meth D clM (tysM cz) ret RX4) (hF : rdA σ 87 i kf = some r) (d : decode cc pc = .ok (.iaload, 1)) (kk : ∀ v, kf v = some r → GW p l e R s m args below meth c Q (mInv D cz qm σ H0) (F0 m (pc + 1) ls (.int v :: rest))) : GW p l e R s m args below meth c Q (mInv D cz qm σ H0) (F0 m pc ls (.int i :: .ref (mad qm 87) :: rest)) := m_iald K hF rfl rfl rfl d kk
theorem mst_87 {i : Int32} {v : Int32} {kf : MS → Option α} (K : GX p m c cc nL s args meth D clM (tysM cz) ret RX4) (hF : wrA σ 87 i v kf = some r) (ha : ag w σ0 σ) (hw : w.2.1.contains 87 = true) (d : decode cc pc = .ok (.iastore, 1)) (kk : ∀ σ1, kf σ1 = some r → ag w σ0 σ1 → GW p l e R s m args below meth c Q (mInv D cz qm σ1 H0) (F0 m (pc + 1) ls (rest))) : GW p l e R s m args below meth c Q (mInv D cz qm σ H0) (F0 m pc ls (.int v :: .int i :: .ref (mad qm 87) :: rest)) := m_iast K hF ha hw rfl rfl rfl d kk
theorem mfl_88 : Cond.fieldLink RX4 169 (TX4 88).1 (TX4 88).2.1 (TX4 88).2.2.1 ∈ lw_all := q1594
theorem mget_88 (K : GX p m c cc nL s args meth D clM (tysM cz) ret RX4) (d : decode cc pc = .ok (.getfield 169, 3)) (kk : GW p l e R s m args below meth c Q (mInv D cz qm σ H0) (F0 m (pc + 3) ls (.ref (mad qm 88) :: rest))) : GW p l e R s m args below meth c Q (mInv D cz qm σ H0) (F0 m pc ls (.ref qm :: rest)) := m_get (k := 88) K rfl mfl_88 rfl d kk
theorem mld_88 {i : Int32} {kf : Int32 → Option α} (K : GX p m c cc nL s args meth D clM (tysM cz) ret RX4) (hF : rdA σ 88 i kf = some r) (d : decode cc pc = .ok (.iaload, 1)) (kk : ∀ v, kf v = some r → GW p l e R s m args below meth c Q (mInv D cz qm σ H0) (F0 m (pc + 1) ls (.int v :: rest))) : GW p l e R s m args below meth c Q (mInv D cz qm σ H0) (F0 m pc ls (.int i :: .ref (mad qm 88) :: rest)) := m_iald K hF rfl rfl rfl d kk
theorem mst_88 {i : Int32} {v : Int32} {kf : MS → Option α} (K : GX p m c cc nL s args meth D clM (tysM cz) ret RX4) (hF : wrA σ 88 i v kf = some r) (ha : ag w σ0 σ) (hw : w.2.1.contains 88 = true) (d : decode cc pc = .ok (.iastore, 1)) (kk : ∀ σ1, kf σ1 = some r → ag w σ0 σ1 → GW p l e R s m args below meth c Q (mInv D cz qm σ1 H0) (F0 m (pc + 1) ls (rest))) : GW p l e R s m args below meth c Q (mInv D cz qm σ H0) (F0 m pc ls (.int v :: .int i :: .ref (mad qm 88) :: rest)) := m_iast K hF ha hw rfl rfl rfl d kk
theorem mfl_89 : Cond.fieldLink RX4 172 (TX4 89).1 (TX4 89).2.1 (TX4 89).2.2.1 ∈ lw_all := q1595
theorem mget_89 (K : GX p m c cc nL s args meth D clM (tysM cz) ret RX4) (d : decode cc pc = .ok (.getfield 172, 3)) (kk : GW p l e R s m args below meth c Q (mInv D cz qm σ H0) (F0 m (pc + 3) ls (.ref (mad qm 89) :: rest))) : GW p l e R s m args below meth c Q (mInv D cz qm σ H0) (F0 m pc ls (.ref qm :: rest)) := m_get (k := 89) K rfl mfl_89 rfl d kk
theorem mld_89 {i : Int32} {kf : Int32 → Option α} (K : GX p m c cc nL s args meth D clM (tysM cz) ret RX4) (hF : rdA σ 89 i kf = some r) (d : decode cc pc = .ok (.iaload, 1)) (kk : ∀ v, kf v = some r → GW p l e R s m args below meth c Q (mInv D cz qm σ H0) (F0 m (pc + 1) ls (.int v :: rest))) : GW p l e R s m args below meth c Q (mInv D cz qm σ H0) (F0 m pc ls (.int i :: .ref (mad qm 89) :: rest)) := m_iald K hF rfl rfl rfl d kk
theorem mst_89 {i : Int32} {v : Int32} {kf : MS → Option α} (K : GX p m c cc nL s args meth D clM (tysM cz) ret RX4) (hF : wrA σ 89 i v kf = some r) (ha : ag w σ0 σ) (hw : w.2.1.contains 89 = true) (d : decode cc pc = .ok (.iastore, 1)) (kk : ∀ σ1, kf σ1 = some r → ag w σ0 σ1 → GW p l e R s m args below meth c Q (mInv D cz qm σ1 H0) (F0 m (pc + 1) ls (rest))) : GW p l e R s m args below meth c Q (mInv D cz qm σ H0) (F0 m pc ls (.int v :: .int i :: .ref (mad qm 89) :: rest)) := m_iast K hF ha hw rfl rfl rfl d kk
theorem mfl_90 : Cond.fieldLink RX4 175 (TX4 90).1 (TX4 90).2.1 (TX4 90).2.2.1 ∈ lw_all := q1596
theorem mget_90 (K : GX p m c cc nL s args meth D clM (tysM cz) ret RX4) (d : decode cc pc = .ok (.getfield 175, 3)) (kk : GW p l e R s m args below meth c Q (mInv D cz qm σ H0) (F0 m (pc + 3) ls (.ref (mad qm 90) :: rest))) : GW p l e R s m args below meth c Q (mInv D cz qm σ H0) (F0 m pc ls (.ref qm :: rest)) := m_get (k := 90) K rfl mfl_90 rfl d kk
theorem mld_90 {i : Int32} {kf : Int32 → Option α} (K : GX p m c cc nL s args meth D clM (tysM cz) ret RX4) (hF : rdA σ 90 i kf = some r) (d : decode cc pc = .ok (.iaload, 1)) (kk : ∀ v, kf v = some r → GW p l e R s m args below meth c Q (mInv D cz qm σ H0) (F0 m (pc + 1) ls (.int v :: rest))) : GW p l e R s m args below meth c Q (mInv D cz qm σ H0) (F0 m pc ls (.int i :: .ref (mad qm 90) :: rest)) := m_iald K hF rfl rfl rfl d kk
theorem mst_90 {i : Int32} {v : Int32} {kf : MS → Option α} (K : GX p m c cc nL s args meth D clM (tysM cz) ret RX4) (hF : wrA σ 90 i v kf = some r) (ha : ag w σ0 σ) (hw : w.2.1.contains 90 = true) (d : decode cc pc = .ok (.iastore, 1)) (kk : ∀ σ1, kf σ1 = some r → ag w σ0 σ1 → GW p l e R s m args below meth c Q (mInv D cz qm σ1 H0) (F0 m (pc + 1) ls (rest))) : GW p l e R s m args below meth c Q (mInv D cz qm σ H0) (F0 m pc ls (.int v :: .int i :: .ref (mad qm 90) :: rest)) := m_iast K hF ha hw rfl rfl rfl d kk
theorem mfl_91 : Cond.fieldLink RX4 488 (TX4 91).1 (TX4 91).2.1 (TX4 91).2.2.1 ∈ lw_all := q1597
theorem mget_91 (K : GX p m c cc nL s args meth D clM (tysM cz) ret RX4) (d : decode cc pc = .ok (.getfield 488, 3)) (kk : GW p l e R s m args below meth c Q (mInv D cz qm σ H0) (F0 m (pc + 3) ls (.int (gI σ 91) :: rest))) : GW p l e R s m args below meth c Q (mInv D cz qm σ H0) (F0 m pc ls (.ref qm :: rest)) := m_get (k := 91) K rfl mfl_91 rfl d kk
theorem mput_91 {v : Int32} {kf : MS → Option α} (K : GX p m c cc nL s args meth D clM (tysM cz) ret RX4) (hF : vlS (sI σ 91 v) kf = some r) (ha : ag w σ0 σ) (hw : w.1.contains 91 = true) (d : decode cc pc = .ok (.putfield 488, 3)) (kk : ∀ σ1, kf σ1 = some r → ag w σ0 σ1 → GW p l e R s m args below meth c Q (mInv D cz qm σ1 H0) (F0 m (pc + 3) ls (rest))) : GW p l e R s m args below meth c Q (mInv D cz qm σ H0) (F0 m pc ls (.int v :: .ref qm :: rest)) := m_putI (ty := .int) K hF ha hw rfl rfl mfl_91 rfl rfl rfl rfl d kk
theorem mfl_92 : Cond.fieldLink RX4 650 (TX4 92).1 (TX4 92).2.1 (TX4 92).2.2.1 ∈ lw_all := q1598
theorem mget_92 (K : GX p m c cc nL s args meth D clM (tysM cz) ret RX4) (d : decode cc pc = .ok (.getfield 650, 3)) (kk : GW p l e R s m args below meth c Q (mInv D cz qm σ H0) (F0 m (pc + 3) ls (.int (gI σ 92) :: rest))) : GW p l e R s m args below meth c Q (mInv D cz qm σ H0) (F0 m pc ls (.ref qm :: rest)) := m_get (k := 92) K rfl mfl_92 rfl d kk
theorem mput_92 {v : Int32} {kf : MS → Option α} (K : GX p m c cc nL s args meth D clM (tysM cz) ret RX4) (hF : vlS (sI σ 92 v) kf = some r) (ha : ag w σ0 σ) (hw : w.1.contains 92 = true) (d : decode cc pc = .ok (.putfield 650, 3)) (kk : ∀ σ1, kf σ1 = some r → ag w σ0 σ1 → GW p l e R s m args below meth c Q (mInv D cz qm σ1 H0) (F0 m (pc + 3) ls (rest))) : GW p l e R s m args below meth c Q (mInv D cz qm σ H0) (F0 m pc ls (.int v :: .ref qm :: rest)) := m_putI (ty := .int) K hF ha hw rfl rfl mfl_92 rfl rfl rfl rfl d kk
theorem mfl_93 : Cond.fieldLink RX4 178 (TX4 93).1 (TX4 93).2.1 (TX4 93).2.2.1 ∈ lw_all := q1599
theorem mget_93 (K : GX p m c cc nL s args meth D clM (tysM cz) ret RX4) (d : decode cc pc = .ok (.getfield 178, 3)) (kk : GW p l e R s m args below meth c Q (mInv D cz qm σ H0) (F0 m (pc + 3) ls (.ref (mad qm 93) :: rest))) : GW p l e R s m args below meth c Q (mInv D cz qm σ H0) (F0 m pc ls (.ref qm :: rest)) := m_get (k := 93) K rfl mfl_93 rfl d kk
theorem mld_93 {i : Int32} {kf : Int32 → Option α} (K : GX p m c cc nL s args meth D clM (tysM cz) ret RX4) (hF : rdA σ 93 i kf = some r) (d : decode cc pc = .ok (.baload, 1)) (kk : ∀ v, kf v = some r → GW p l e R s m args below meth c Q (mInv D cz qm σ H0) (F0 m (pc + 1) ls (.int v :: rest))) : GW p l e R s m args below meth c Q (mInv D cz qm σ H0) (F0 m pc ls (.int i :: .ref (mad qm 93) :: rest)) := m_zald K hF rfl rfl rfl d kk
theorem mst_93 {i : Int32} {v : Int32} {kf : MS → Option α} (K : GX p m c cc nL s args meth D clM (tysM cz) ret RX4) (hF : wrA σ 93 i v kf = some r) (hz : v = 0 ∨ v = 1) (ha : ag w σ0 σ) (hw : w.2.1.contains 93 = true) (d : decode cc pc = .ok (.bastore, 1)) (kk : ∀ σ1, kf σ1 = some r → ag w σ0 σ1 → GW p l e R s m args below meth c Q (mInv D cz qm σ1 H0) (F0 m (pc + 1) ls (rest))) : GW p l e R s m args below meth c Q (mInv D cz qm σ H0) (F0 m pc ls (.int v :: .int i :: .ref (mad qm 93) :: rest)) := m_zast K hF hz ha hw rfl rfl rfl d kk
theorem mfl_94 : Cond.fieldLink RX4 181 (TX4 94).1 (TX4 94).2.1 (TX4 94).2.2.1 ∈ lw_all := q1600
theorem mget_94 (K : GX p m c cc nL s args meth D clM (tysM cz) ret RX4) (d : decode cc pc = .ok (.getfield 181, 3)) (kk : GW p l e R s m args below meth c Q (mInv D cz qm σ H0) (F0 m (pc + 3) ls (.ref (mad qm 94) :: rest))) : GW p l e R s m args below meth c Q (mInv D cz qm σ H0) (F0 m pc ls (.ref qm :: rest)) := m_get (k := 94) K rfl mfl_94 rfl d kk
theorem mld_94 {i : Int32} {kf : Int32 → Option α} (K : GX p m c cc nL s args meth D clM (tysM cz) ret RX4) (hF : rdA σ 94 i kf = some r) (d : decode cc pc = .ok (.iaload, 1)) (kk : ∀ v, kf v = some r → GW p l e R s m args below meth c Q (mInv D cz qm σ H0) (F0 m (pc + 1) ls (.int v :: rest))) : GW p l e R s m args below meth c Q (mInv D cz qm σ H0) (F0 m pc ls (.int i :: .ref (mad qm 94) :: rest)) := m_iald K hF rfl rfl rfl d kk
theorem mst_94 {i : Int32} {v : Int32} {kf : MS → Option α} (K : GX p m c cc nL s args meth D clM (tysM cz) ret RX4) (hF : wrA σ 94 i v kf = some r) (ha : ag w σ0 σ) (hw : w.2.1.contains 94 = true) (d : decode cc pc = .ok (.iastore, 1)) (kk : ∀ σ1, kf σ1 = some r → ag w σ0 σ1 → GW p l e R s m args below meth c Q (mInv D cz qm σ1 H0) (F0 m (pc + 1) ls (rest))) : GW p l e R s m args below meth c Q (mInv D cz qm σ H0) (F0 m pc ls (.int v :: .int i :: .ref (mad qm 94) :: rest)) := m_iast K hF ha hw rfl rfl rfl d kk
end FRows
theorem lb_m2 : (Int8.ofInt (-2)).toInt32 = -2 := by decide
theorem lb_6 : (Int8.ofInt (6)).toInt32 = 6 := by decide
theorem lb_7 : (Int8.ofInt (7)).toInt32 = 7 := by decide
theorem lb_8 : (Int8.ofInt (8)).toInt32 = 8 := by decide
theorem lb_9 : (Int8.ofInt (9)).toInt32 = 9 := by decide
theorem lb_10 : (Int8.ofInt (10)).toInt32 = 10 := by decide
theorem lb_11 : (Int8.ofInt (11)).toInt32 = 11 := by decide
theorem lb_15 : (Int8.ofInt (15)).toInt32 = 15 := by decide
theorem lb_16 : (Int8.ofInt (16)).toInt32 = 16 := by decide
theorem lb_20 : (Int8.ofInt (20)).toInt32 = 20 := by decide
theorem lb_21 : (Int8.ofInt (21)).toInt32 = 21 := by decide
theorem lb_24 : (Int8.ofInt (24)).toInt32 = 24 := by decide
theorem lb_30 : (Int8.ofInt (30)).toInt32 = 30 := by decide
theorem lb_32 : (Int8.ofInt (32)).toInt32 = 32 := by decide
theorem lb_37 : (Int8.ofInt (37)).toInt32 = 37 := by decide
theorem lb_38 : (Int8.ofInt (38)).toInt32 = 38 := by decide
theorem lb_40 : (Int8.ofInt (40)).toInt32 = 40 := by decide
theorem lb_41 : (Int8.ofInt (41)).toInt32 = 41 := by decide
theorem lb_42 : (Int8.ofInt (42)).toInt32 = 42 := by decide
theorem lb_43 : (Int8.ofInt (43)).toInt32 = 43 := by decide
theorem lb_45 : (Int8.ofInt (45)).toInt32 = 45 := by decide
theorem lb_47 : (Int8.ofInt (47)).toInt32 = 47 := by decide
theorem lb_48 : (Int8.ofInt (48)).toInt32 = 48 := by decide
theorem lb_50 : (Int8.ofInt (50)).toInt32 = 50 := by decide
theorem lb_51 : (Int8.ofInt (51)).toInt32 = 51 := by decide
theorem lb_52 : (Int8.ofInt (52)).toInt32 = 52 := by decide
theorem lb_57 : (Int8.ofInt (57)).toInt32 = 57 := by decide
theorem lb_59 : (Int8.ofInt (59)).toInt32 = 59 := by decide
theorem lb_60 : (Int8.ofInt (60)).toInt32 = 60 := by decide
theorem lb_61 : (Int8.ofInt (61)).toInt32 = 61 := by decide
theorem lb_62 : (Int8.ofInt (62)).toInt32 = 62 := by decide
theorem lb_63 : (Int8.ofInt (63)).toInt32 = 63 := by decide
theorem lb_71 : (Int8.ofInt (71)).toInt32 = 71 := by decide
theorem lb_90 : (Int8.ofInt (90)).toInt32 = 90 := by decide
theorem lb_97 : (Int8.ofInt (97)).toInt32 = 97 := by decide
theorem lb_99 : (Int8.ofInt (99)).toInt32 = 99 := by decide
theorem lb_100 : (Int8.ofInt (100)).toInt32 = 100 := by decide
theorem lb_122 : (Int8.ofInt (122)).toInt32 = 122 := by decide
theorem lb_123 : (Int8.ofInt (123)).toInt32 = 123 := by decide
theorem lb_124 : (Int8.ofInt (124)).toInt32 = 124 := by decide
theorem lc_m8 : Int32.ofInt (-8) = -8 := by decide
theorem lc_m1 : Int32.ofInt (-1) = -1 := by decide
theorem lc_0 : Int32.ofInt (0) = 0 := by decide
theorem lc_1 : Int32.ofInt (1) = 1 := by decide
theorem lc_2 : Int32.ofInt (2) = 2 := by decide
theorem lc_3 : Int32.ofInt (3) = 3 := by decide
theorem lc_4 : Int32.ofInt (4) = 4 := by decide
theorem lc_5 : Int32.ofInt (5) = 5 := by decide
theorem ll_0 : Int64.ofNat (((0 : Fin 2)) : Nat) = 0 := by decide
theorem ll_1 : Int64.ofNat (((1 : Fin 2)) : Nat) = 1 := by decide
theorem ls_128 : (Int16.ofInt (128)).toInt32 = 128 := by decide
theorem ls_137 : (Int16.ofInt (137)).toInt32 = 137 := by decide
theorem ls_255 : (Int16.ofInt (255)).toInt32 = 255 := by decide
theorem ls_320 : (Int16.ofInt (320)).toInt32 = 320 := by decide
theorem ls_999 : (Int16.ofInt (999)).toInt32 = 999 := by decide
theorem ls_1000 : (Int16.ofInt (1000)).toInt32 = 1000 := by decide
theorem ls_1600 : (Int16.ofInt (1600)).toInt32 = 1600 := by decide
theorem ls_4992 : (Int16.ofInt (4992)).toInt32 = 4992 := by decide
theorem ls_9999 : (Int16.ofInt (9999)).toInt32 = 9999 := by decide
theorem ls_20000 : (Int16.ofInt (20000)).toInt32 = 20000 := by decide
