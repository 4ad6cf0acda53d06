section XRows2
variable {p : Program} {l : Launch} {e : Env} {R : Room} {s : State} {m : MethodId} {args : Array Value} {below : List Frame} {meth : Method} {c : Code} {H : Heap} {locs : List Loc} {cells slots : Nat} {Q : State → Prop} {cc : ByteArray} {nL : Nat} {own : String} {D : va_G} {cx ro : Nat → Nat} {A : Nat → Prop} {ret : Option FieldType} {ls : Array Slot} {lq0 : List (Nat × Option Value)} {pc : Nat} {rest st : List Value} {n : Bool} {w : XW} {σ σ0 τ : XS} {o : Option Value} {TL SL t0 s0 : Nat}
def cpU (C : String) (x y : MethodName) (b : ByteArray) (maxL : Nat) (ret : Option FieldType) (nY : Nat) : Prop := Cond.sameMethod x.cls x.cls x.name x.desc ∈ lw_all ∧ Cond.selects C x y ∈ lw_all ∧ Cond.instanceMethod y ∈ lw_all ∧ Cond.initialized y.cls ∈ lw_all ∧ Cond.code y b maxL ret ∈ lw_all ∧ (x.cls ≠ "java/lang/invoke/MethodHandle" ∧ x.cls ≠ "java/lang/invoke/VarHandle" ∧ (parseMethodDescriptor x.desc).map (fun d => d.parameters.length) = some nY)
theorem x_runU {C : String} {x y : MethodName} {bytes : ByteArray} {maxL mc ms nY index b : Nat} {ret2 : Option FieldType} {rm : Room} {Pc : Array Value → State → Prop} {Qc : Array Value → State → Outcome → State → Prop} {free : Addr → Prop} {As : List Value} {g : JFrame}
    (S : CallFix p m c cc nL s args lw_all own) (hM : Met l y (ws_ y bytes maxL ret2) rm Pc Qc mc ms free) (hlink : Cond.methodLink own index x ∈ lw_all) (cp : cpU C x y bytes maxL ret2 nY) (hdecl : va_Decl s x)
    (hR : rm.frames + 1 ≤ R.frames ∧ 8 + (maxL + 11) + rm.locals ≤ R.locals) (hp : PreV s H C b Pc As)
    (hg : g.method = m) (hn : As.length = nY) (hsize : g.locals.size = nL) (hstack : g.stack = As.reverse ++ .ref b :: rest) (hW : 2 * g.monitorRoom + (rest.map fun v => v.category).sum ≤ 8) (hdg : decode cc g.pc = .ok (.invokevirtual index, 3)) (hf : cells + rm.cells ≤ R.cells ∧ slots + rm.slots ≤ R.slots) :
    va_Run p l e R s m args below meth c H locs cells slots mc ms g rest (Qc (Value.ref b :: As).toArray) (free) := by
  obtain ⟨c0, c2, c1, c3, c4, c5⟩ := cp
  have hK := x_bk (R := R) (e := e) (below := below) S hM hp.1 c3 c4 hR
  obtain ⟨hx, hb, hml, ho, hts⟩ := S
  obtain ⟨-, ⟨cellB, hcB, hoB, hclB⟩, hPc⟩ := hp
  intro T hT X
  obtain ⟨v, vm₁, ⟨U', l2, k2, s2⟩, hW₁, X', ⟨g', mk, t, L, e1, e2, hq, h1, hL, h2, h3⟩, st⟩ := va_callVU X hx (C := C) (owner := x.cls) (bytes := bytes) (maxL := maxL) (ret := ret2) ho (hts _ hlink) (hts _ c0) hdecl ⟨c5.1, c5.2.1⟩ (hts _ c2) (hts _ c1) (hts _ c4) hK (by rw [hT]; exact hcB) hoB hclB hg (hsize.trans hml.symm) (argsL := As) (rest := rest) (fun sig h => hn.trans (c5_len c5.2.2 sig h)) hstack hW (by rw [hb]; exact hdg)
    (fun vm₁ hW₁ => ⟨hf.1, hf.2, hPc (T.setVm vm₁) hT hW₁⟩)
  dsimp only [Pt.U, Pt.locs, Pt.cells, Pt.slots] at X' e1 e2 h1 h2 h3 st
  subst h1; subst h2; subst h3
  exact ⟨v, (T.setVm vm₁).calling g' mk (Value.ref b :: As).toArray, t, U', L, hT, X', hL, e1, e2, hq, st⟩
def cpSU (y : MethodName) (b : ByteArray) (maxL : Nat) (ret : Option FieldType) (nY : Nat) : Prop := y.name ≠ "<init>" ∧ Cond.sameMethod y.cls y.cls y.name y.desc ∈ lw_all ∧ Cond.instanceMethod y ∈ lw_all ∧ Cond.initialized y.cls ∈ lw_all ∧ Cond.code y b maxL ret ∈ lw_all ∧ (parseMethodDescriptor y.desc).map (fun d => d.parameters.length) = some nY
theorem x_runSU {C : String} {y : MethodName} {bytes : ByteArray} {maxL mc ms nY index b : Nat} {ret2 : Option FieldType} {rm : Room} {Pc : Array Value → State → Prop} {Qc : Array Value → State → Outcome → State → Prop} {free : Addr → Prop} {As : List Value} {g : JFrame}
    (S : CallFix p m c cc nL s args lw_all own) (hM : Met l y (ws_ y bytes maxL ret2) rm Pc Qc mc ms free) (hlink : Cond.methodLink own index y ∈ lw_all) (hsup : Cond.superclass own y.cls ∈ lw_all) (cp : cpSU y bytes maxL ret2 nY)
    (hR : rm.frames + 1 ≤ R.frames ∧ 8 + (maxL + 11) + rm.locals ≤ R.locals) (hp : PreV s H C b Pc As)
    (hg : g.method = m) (hn : As.length = nY) (hsize : g.locals.size = nL) (hstack : g.stack = As.reverse ++ .ref b :: rest) (hW : 2 * g.monitorRoom + (rest.map fun v => v.category).sum ≤ 8) (hdg : decode cc g.pc = .ok (.invokespecial index, 3)) (hf : cells + rm.cells ≤ R.cells ∧ slots + rm.slots ≤ R.slots) :
    va_Run p l e R s m args below meth c H locs cells slots mc ms g rest (Qc (Value.ref b :: As).toArray) (free) := by
  obtain ⟨c0, c9, c1, c3, c4, c5⟩ := cp
  have hK := x_bk (R := R) (e := e) (below := below) S hM hp.1 c3 c4 hR
  obtain ⟨hx, hb, hml, ho, hts⟩ := S
  obtain ⟨-, ⟨cellB, hcB, hoB, hclB⟩, hPc⟩ := hp
  obtain ⟨kB, hkB, -⟩ := Vm.findClass_spec hclB
  intro T hT X
  obtain ⟨v, vm₁, ⟨U', l2, k2, s2⟩, hW₁, X', ⟨g', mk, t, L, e1, e2, hq, h1, hL, h2, h3⟩, st⟩ := va_callSU X hx (bytes := bytes) (maxL := maxL) (ret := ret2) ho (hts _ hlink) (hts _ c9) (hts _ hsup) (hts _ c1) (hts _ c4) c0 hK (by rw [hT]; exact hcB) hoB hkB hg (hsize.trans hml.symm) (argsL := As) (rest := rest) (fun sig h => hn.trans (c5_len c5 sig h)) hstack hW (by rw [hb]; exact hdg)
    (fun vm₁ hW₁ => ⟨hf.1, hf.2, hPc (T.setVm vm₁) hT hW₁⟩)
  dsimp only [Pt.U, Pt.locs, Pt.cells, Pt.slots] at X' e1 e2 h1 h2 h3 st
  subst h1; subst h2; subst h3
  exact ⟨v, (T.setVm vm₁).calling g' mk (Value.ref b :: As).toArray, t, U', L, hT, X', hL, e1, e2, hq, st⟩
/-- the functions' calls -/
def bndX {α ρ : Type} (x : Option (ρ × XS)) (n : Bool) (w : XW) (σ : XS) (k : ρ → XS → Option α) : Option α := match x with
  | none => none
  | some t => k t.1 (mxW n w σ t.2)
def bndY {α : Type} (x : Option XS) (n : Bool) (w : XW) (σ : XS) (k : XS → Option α) : Option α := match x with
  | none => none
  | some t => k (mxW n w σ t)
theorem nnX_i {α : Type} {t : Nat} {r : Option Nat} {k : Nat → Option α} {res : α} (h : nnX σ t r k = some res) : ∃ q, r = some q ∧ tg σ q = t ∧ k q = some res := by
  cases r with
  | none => cases h
  | some q =>
    simp only [nnX] at h
    split at h
    · rename_i ht
      exact ⟨q, rfl, ht, h⟩
    · cases h
abbrev RunX (p : Program) (l : Launch) (e : Env) (R : Room) (s : State) (m : MethodId) (args : Array Value) (below : List Frame) (meth : Method) (c : Code) (D : va_G) (cx ro : Nat → Nat) (A : Nat → Prop) (TL SL t0 s0 : Nat) (g : JFrame) (rest : List Value) (n2 : Bool) (wY : XW) (σ : XS) (o : Option Value) (τ : XS) (a : Array Value) : Prop :=
  ∀ (H : Heap) (locs : List Loc) (cs sl9 : Nat), xInv D cx ro A s TL SL t0 s0 σ H locs cs sl9 → va_Run p l e R s m args below meth c H locs cs sl9 (tp τ - tp σ) (sn τ - sn σ) g rest (xQ D cx ro A TL SL n2 wY σ o τ a) A
theorem x_callP {α ρ : Type} {V : ρ → Value} {X0 : Option ρ} {kf : ρ → Option α} {res : α} {n2 : Bool} {wY : XW} {a : Array Value} (hF : bnd X0 kf = some res) (hrun : ∀ t, X0 = some t → RunX p l e R s m args below meth c D cx ro A TL SL t0 s0 (F0 m pc ls st) rest n2 wY σ (some (V t)) σ a)
    (kk : ∀ t, kf t = some res → GW p l e R s m args below meth c Q (xInv D cx ro A s TL SL t0 s0 σ) (F0 m (pc + 3) ls (V t :: rest))) : GW p l e R s m args below meth c Q (xInv D cx ro A s TL SL t0 s0 σ) (F0 m pc ls st) := by
  intro H locs cs sl9 hI
  obtain ⟨t, hX, hF⟩ := bnd_i hF
  exact x_back (hrun t hX H locs cs sl9 hI) hI (fun _ => kk t hF)
theorem x_callW {α ρ : Type} {V : ρ → Value} {X0 : Option (ρ × XS)} {kf : ρ → XS → Option α} {res : α} {n2 : Bool} {wY : XW} {a : Array Value} (hF : bndX X0 n2 wY σ kf = some res) (ha : agW n w σ0 σ) (hs : (xsub wY w && (!n2 || n)) = true) (hrun : ∀ t, X0 = some t → RunX p l e R s m args below meth c D cx ro A TL SL t0 s0 (F0 m pc ls st) rest n2 wY σ (some (V t.1)) t.2 a)
    (kk : ∀ t σ1, kf t σ1 = some res → agW n w σ0 σ1 → GW p l e R s m args below meth c Q (xInv D cx ro A s TL SL t0 s0 σ1) (F0 m (pc + 3) ls (V t :: rest))) : GW p l e R s m args below meth c Q (xInv D cx ro A s TL SL t0 s0 σ) (F0 m pc ls st) := by
  intro H locs cs sl9 hI
  cases hX : X0 with
  | none => rw [hX] at hF; cases hF
  | some t =>
    rw [hX] at hF
    have hF : kf t.1 (mxW n2 wY σ t.2) = some res := hF
    refine x_back (hrun t hX H locs cs sl9 hI) hI (fun hag => ?_)
    rw [mxW_ag hag] at hF
    exact kk t.1 t.2 hF (ha.tr hag hs)
theorem x_callV {α : Type} {X0 : Option XS} {kf : XS → Option α} {res : α} {n2 : Bool} {wY : XW} {a : Array Value} (hF : bndY X0 n2 wY σ kf = some res) (ha : agW n w σ0 σ) (hs : (xsub wY w && (!n2 || n)) = true) (hrun : ∀ t, X0 = some t → RunX p l e R s m args below meth c D cx ro A TL SL t0 s0 (F0 m pc ls st) rest n2 wY σ none t a)
    (kk : ∀ σ1, kf σ1 = some res → agW n w σ0 σ1 → GW p l e R s m args below meth c Q (xInv D cx ro A s TL SL t0 s0 σ1) (F0 m (pc + 3) ls rest)) : GW p l e R s m args below meth c Q (xInv D cx ro A s TL SL t0 s0 σ) (F0 m pc ls st) := by
  intro H locs cs sl9 hI
  cases hX : X0 with
  | none => rw [hX] at hF; cases hF
  | some t =>
    rw [hX] at hF
    have hF : kf (mxW n2 wY σ t) = some res := hF
    refine x_back (hrun t hX H locs cs sl9 hI) hI (fun hag => ?_)
    rw [mxW_ag hag] at hF
    exact kk t hF (ha.tr hag hs)
/-- runs out of contracts, by the kind of call -/
theorem x_rV {ci b d dY maxL nY index : Nat} {r : vw_C} {y : MethodName} {bytes : ByteArray} {ret2 : Option FieldType} {n2 : Bool} {wY : XW} {As : List Value} (X : XX p m c cc nL s args meth D cx ro A ret own) (h : lq ls nL lq0) (hM : xMet l D cx ro A TL SL y bytes maxL ret2 dY n2 wY (.ref b :: As) σ o τ) (ht : tg σ b = ci + 1) (hc : clX[ci]? = some r) (hC : r.1 = y.cls) (cp : cpV y bytes maxL ret2 nY) (hq : Cond.methodLink own index y ∈ lw_all) (hn : As.length = nY) (hd1 : Nat.ble (dY + 1) d = true) (hd2 : Nat.ble maxL 41 = true) (hst : st = As.reverse ++ .ref b :: rest) (hroom : (rest.map fun v => v.category).sum ≤ 8) (dec : decode cc pc = .ok (.invokevirtual index, 3)) :
    RunX p l e (xRoom d (TL - t0) (SL - s0)) s m args below meth c D cx ro A TL SL t0 s0 (F0 m pc ls st) rest n2 wY σ o τ (Value.ref b :: As).toArray := by
  intro H locs cs sl9 hI
  obtain ⟨c1, c2, c3, c4, c5⟩ := cp
  exact x_runV (As := As) X.gx.1 hM hq c1 c2 c3 c4 c5 (x_RR hd1 hd2) (x_pre X hI ht hc hC) rfl hn h.1 hst (lv_room hroom) dec (x_fit (maxL := maxL) hI ⟨rfl, rfl⟩)
theorem x_rS {d dY maxL nY index : Nat} {y : MethodName} {bytes : ByteArray} {ret2 : Option FieldType} {n2 : Bool} {wY : XW} {As : List Value} (X : XX p m c cc nL s args meth D cx ro A ret own) (h : lq ls nL lq0) (hM : xMet l D cx ro A TL SL y bytes maxL ret2 dY n2 wY As σ o τ) (cp : cpS y bytes maxL ret2 nY) (hq : Cond.methodLink own index y ∈ lw_all) (hn : As.length = nY) (hd1 : Nat.ble (dY + 1) d = true) (hd2 : Nat.ble maxL 41 = true) (hst : st = As.reverse ++ rest) (hroom : (rest.map fun v => v.category).sum ≤ 8) (dec : decode cc pc = .ok (.invokestatic index, 3)) :
    RunX p l e (xRoom d (TL - t0) (SL - s0)) s m args below meth c D cx ro A TL SL t0 s0 (F0 m pc ls st) rest n2 wY σ o τ As.toArray := by
  intro H locs cs sl9 hI
  exact x_runS (As := As) X.gx.1 hM hq cp (x_RR hd1 hd2) (x_preS X hI) rfl hn h.1 hst (lv_room hroom) dec (x_fit (maxL := maxL) hI ⟨rfl, rfl⟩)
theorem x_rSN {d dY maxL nY index : Nat} {y : MethodName} {bytes : ByteArray} {ret2 : Option FieldType} {n2 : Bool} {wY : XW} {As : List Value} {host : String} (X : XX p m c cc nL s args meth D cx ro A ret own) (h : lq ls nL lq0) (hM : xMet l D cx ro A TL SL y bytes maxL ret2 dY n2 wY As σ o τ) (cp : cpS y bytes maxL ret2 nY) (hq : Cond.methodLinkNest own index y host ∈ nestX) (hn : As.length = nY) (hd1 : Nat.ble (dY + 1) d = true) (hd2 : Nat.ble maxL 41 = true) (hst : st = As.reverse ++ rest) (hroom : (rest.map fun v => v.category).sum ≤ 8) (dec : decode cc pc = .ok (.invokestatic index, 3)) :
    RunX p l e (xRoom d (TL - t0) (SL - s0)) s m args below meth c D cx ro A TL SL t0 s0 (F0 m pc ls st) rest n2 wY σ o τ As.toArray := by
  intro H locs cs sl9 hI
  exact x_runSN (As := As) X.gx.1 hM (X.k.2.1 _ hq) cp (x_RR hd1 hd2) (x_preS X hI) rfl hn h.1 hst (lv_room hroom) dec (x_fit (maxL := maxL) hI ⟨rfl, rfl⟩)
theorem x_rI {b d dY maxL nY index : Nat} {y : MethodName} {bytes : ByteArray} {n2 : Bool} {wY : XW} {As : List Value} (X : XX p m c cc nL s args meth D cx ro A ret own) (h : lq ls nL lq0) (hM : xMet l D cx ro A TL SL y bytes maxL none dY n2 wY (.ref b :: As) σ o τ) (cp : cpI y bytes maxL nY) (hq : Cond.methodLink own index y ∈ lw_all) (hn : As.length = nY) (hd1 : Nat.ble (dY + 1) d = true) (hd2 : Nat.ble maxL 41 = true) (hst : st = As.reverse ++ .ref b :: rest) (hroom : (rest.map fun v => v.category).sum ≤ 8) (dec : decode cc pc = .ok (.invokespecial index, 3)) :
    RunX p l e (xRoom d (TL - t0) (SL - s0)) s m args below meth c D cx ro A TL SL t0 s0 (F0 m pc ls st) rest n2 wY σ o τ (Value.ref b :: As).toArray := by
  intro H locs cs sl9 hI
  exact x_runI (As := As) X.gx.1 hM hq cp (x_RR hd1 hd2) (x_preS X hI) rfl hn h.1 hst (lv_room hroom) dec (x_fit (maxL := maxL) hI ⟨rfl, rfl⟩)
theorem x_rIN {b d dY maxL nY index : Nat} {y : MethodName} {bytes : ByteArray} {n2 : Bool} {wY : XW} {As : List Value} {host : String} (X : XX p m c cc nL s args meth D cx ro A ret own) (h : lq ls nL lq0) (hM : xMet l D cx ro A TL SL y bytes maxL none dY n2 wY (.ref b :: As) σ o τ) (cp : cpI y bytes maxL nY) (hq : Cond.methodLinkNest own index y host ∈ nestX) (hn : As.length = nY) (hd1 : Nat.ble (dY + 1) d = true) (hd2 : Nat.ble maxL 41 = true) (hst : st = As.reverse ++ .ref b :: rest) (hroom : (rest.map fun v => v.category).sum ≤ 8) (dec : decode cc pc = .ok (.invokespecial index, 3)) :
    RunX p l e (xRoom d (TL - t0) (SL - s0)) s m args below meth c D cx ro A TL SL t0 s0 (F0 m pc ls st) rest n2 wY σ o τ (Value.ref b :: As).toArray := by
  intro H locs cs sl9 hI
  exact x_runIN (As := As) X.gx.1 hM (X.k.2.1 _ hq) cp (x_RR hd1 hd2) (x_preS X hI) rfl hn h.1 hst (lv_room hroom) dec (x_fit (maxL := maxL) hI ⟨rfl, rfl⟩)
/-- the receiver's facts, by its tag -/
def Rec (D : va_G) (cx ro : Nat → Nat) (A : Nat → Prop) (s : State) (TL SL t0 s0 : Nat) (σ : XS) (C : String) (b : Nat) : Prop := ∀ (H : Heap) (locs : List Loc) (cs sl9 : Nat), xInv D cx ro A s TL SL t0 s0 σ H locs cs sl9 → ∃ cell : Cell, H[b]? = some cell ∧ cell.vm.isStatics = false ∧ s.vm.findClass C = some cell.cls
theorem rec_c {ci b : Nat} {r : vw_C} {C : String} (X : XX p m c cc nL s args meth D cx ro A ret own) (ht : tg σ b = ci + 1) (hc : clX[ci]? = some r) (hC : r.1 = C) : Rec D cx ro A s TL SL t0 s0 σ C b := by
  intro H locs cs sl9 hI
  obtain ⟨⟨cell, g1, g2, g3, -⟩, -⟩ := x_obj hI ht hc
  exact ⟨cell, g1, by rw [g3]; rfl, by rw [← hC, g2]; exact (X.k.1.1 ci _ hc).2.1⟩
theorem rec_t {k b : Nat} {C : String} (ht : tg σ b = 50 + k) (hk : k < 5) (hC : tryN k = C) : Rec D cx ro A s TL SL t0 s0 σ C b := by
  intro H locs cs sl9 hI
  obtain ⟨cell, g1, g2, g3⟩ := hI.1.2.2.2.2.1 b k ht hk
  exact ⟨cell, g1, g2, by rw [← hC]; exact g3⟩
theorem x_rU {C : String} {b d dY maxL nY index : Nat} {x y : MethodName} {bytes : ByteArray} {ret2 : Option FieldType} {n2 : Bool} {wY : XW} {As : List Value} (X : XX p m c cc nL s args meth D cx ro A ret own) (h : lq ls nL lq0) (hM : xMet l D cx ro A TL SL y bytes maxL ret2 dY n2 wY (.ref b :: As) σ o τ) (hrec : Rec D cx ro A s TL SL t0 s0 σ C b) (cp : cpU C x y bytes maxL ret2 nY) (hdecl : va_Decl s x) (hq : Cond.methodLink own index x ∈ lw_all) (hn : As.length = nY) (hd1 : Nat.ble (dY + 1) d = true) (hd2 : Nat.ble maxL 41 = true) (hst : st = As.reverse ++ .ref b :: rest) (hroom : (rest.map fun v => v.category).sum ≤ 8) (dec : decode cc pc = .ok (.invokevirtual index, 3)) :
    RunX p l e (xRoom d (TL - t0) (SL - s0)) s m args below meth c D cx ro A TL SL t0 s0 (F0 m pc ls st) rest n2 wY σ o τ (Value.ref b :: As).toArray := by
  intro H locs cs sl9 hI
  exact x_runU (As := As) X.gx.1 hM hq cp hdecl (x_RR hd1 hd2) ⟨x_blind, hrec H locs cs sl9 hI, fun U hU hW => ⟨rfl, xHR.moved hW.alike (by rw [hU]; exact hI.1), xK.start hW hU hI.2.1 X.k, hI.2.2.2.2⟩⟩ rfl hn h.1 hst (lv_room hroom) dec (x_fit (maxL := maxL) hI ⟨rfl, rfl⟩)
theorem x_rSU {C : String} {b d dY maxL nY index : Nat} {y : MethodName} {bytes : ByteArray} {ret2 : Option FieldType} {n2 : Bool} {wY : XW} {As : List Value} (X : XX p m c cc nL s args meth D cx ro A ret own) (h : lq ls nL lq0) (hM : xMet l D cx ro A TL SL y bytes maxL ret2 dY n2 wY (.ref b :: As) σ o τ) (hrec : Rec D cx ro A s TL SL t0 s0 σ C b) (cp : cpSU y bytes maxL ret2 nY) (hsup : Cond.superclass own y.cls ∈ lw_all) (hq : Cond.methodLink own index y ∈ lw_all) (hn : As.length = nY) (hd1 : Nat.ble (dY + 1) d = true) (hd2 : Nat.ble maxL 41 = true) (hst : st = As.reverse ++ .ref b :: rest) (hroom : (rest.map fun v => v.category).sum ≤ 8) (dec : decode cc pc = .ok (.invokespecial index, 3)) :
    RunX p l e (xRoom d (TL - t0) (SL - s0)) s m args below meth c D cx ro A TL SL t0 s0 (F0 m pc ls st) rest n2 wY σ o τ (Value.ref b :: As).toArray := by
  intro H locs cs sl9 hI
  exact x_runSU (C := C) (As := As) X.gx.1 hM hq hsup cp (x_RR hd1 hd2) ⟨x_blind, hrec H locs cs sl9 hI, fun U hU hW => ⟨rfl, xHR.moved hW.alike (by rw [hU]; exact hI.1), xK.start hW hU hI.2.1 X.k, hI.2.2.2.2⟩⟩ rfl hn h.1 hst (lv_room hroom) dec (x_fit (maxL := maxL) hI ⟨rfl, rfl⟩)
/-- casts, statics, texts -/
theorem x_cast {α : Type} {ci index N : Nat} {C : String} {T : u_T} {r : Option Nat} {kf : Option α} {res : α} (X : XX p m c cc nL s args meth D cx ro A ret own) (hF : cxC σ (ci + 1) r kf = some res) (hc : clX[ci]? = some (C, T, N)) (hq : Cond.classLink own index C ∈ lw_all) (d : decode cc pc = .ok (.checkcast index, 3))
    (kk : kf = some res → GW p l e R s m args below meth c Q (xInv D cx ro A s TL SL t0 s0 σ) (F0 m (pc + 3) ls (va_rf r :: rest))) : GW p l e R s m args below meth c Q (xInv D cx ro A s TL SL t0 s0 σ) (F0 m pc ls (va_rf r :: rest)) := by
  intro H locs cs sl9 hI
  cases r with
  | none => exact lv_castN X.gx.hx X.gx.hb d (kk hF H locs cs sl9 hI)
  | some q =>
    simp only [cxC] at hF
    split at hF
    · rename_i ht
      exact va_castS X.gx.hx X.gx.hb X.gx.hown (X.gx.hts _ hq) (X.k.1.1 ci _ hc).2 (rec_c X ht hc rfl H locs cs sl9 hI) d (kk hF H locs cs sl9 hI)
    · cases hF
theorem x_gets {j index : Nat} {q : String × String × String × Value} (X : XX p m c cc nL s args meth D cx ro A ret own) (hj : (romS ro)[j]? = some q) (hq : Cond.fieldLink own index q.1 q.2.1 q.2.2.1 ∈ lw_all) (d : decode cc pc = .ok (.getstatic index, 3))
    (kk : GW p l e R s m args below meth c Q (xInv D cx ro A s TL SL t0 s0 σ) (F0 m (pc + 3) ls (q.2.2.2 :: rest))) : GW p l e R s m args below meth c Q (xInv D cx ro A s TL SL t0 s0 σ) (F0 m pc ls rest) := fun H locs cs sl9 hI =>
  va_gets X.gx.hx X.gx.hb (X.k.2.2.1 q (List.mem_of_getElem? hj)) hI.2.1 X.gx.hown (X.gx.hts _ hq) (fun _ h => h) d (kk H locs cs sl9 hI)
theorem x_getsN {j index : Nat} {host : String} {q : String × String × String × Value} (X : XX p m c cc nL s args meth D cx ro A ret own) (hj : (romS ro)[j]? = some q) (hq : Cond.fieldLinkNest own index q.1 q.2.1 q.2.2.1 host ∈ nestX) (d : decode cc pc = .ok (.getstatic index, 3))
    (kk : GW p l e R s m args below meth c Q (xInv D cx ro A s TL SL t0 s0 σ) (F0 m (pc + 3) ls (q.2.2.2 :: rest))) : GW p l e R s m args below meth c Q (xInv D cx ro A s TL SL t0 s0 σ) (F0 m pc ls rest) := fun H locs cs sl9 hI =>
  va_getsN X.gx.hx X.gx.hb (X.k.2.2.1 q (List.mem_of_getElem? hj)) hI.2.1 X.gx.hown (va_Nw.use rfl (X.k.2.1 _ hq)) (fun _ h => h) d (kk H locs cs sl9 hI)
theorem x_ldcS {j index : Nat} {tx : String} (X : XX p m c cc nL s args meth D cx ro A ret "TubBites$Reader") (hj : strT.zipIdx[j]? = some ((index, tx), j)) (d : decode cc pc = .ok (.ldc index, 2))
    (kk : GW p l e R s m args below meth c Q (xInv D cx ro A s TL SL t0 s0 σ) (F0 m (pc + 2) ls (va_rf (some (ro (10 + j))) :: rest))) : GW p l e R s m args below meth c Q (xInv D cx ro A s TL SL t0 s0 σ) (F0 m pc ls rest) := fun H locs cs sl9 hI =>
  va_ldcS X.gx.hx X.gx.hb X.gx.hown (X.k.2.2.2.2.2.1 _ (List.mem_of_getElem? hj)) d (kk H locs cs sl9 hI)
theorem x_ldcSW {j index : Nat} {tx : String} (X : XX p m c cc nL s args meth D cx ro A ret "TubBites$Reader") (hj : strT.zipIdx[j]? = some ((index, tx), j)) (d : decode cc pc = .ok (.ldc_w index, 3))
    (kk : GW p l e R s m args below meth c Q (xInv D cx ro A s TL SL t0 s0 σ) (F0 m (pc + 3) ls (va_rf (some (ro (10 + j))) :: rest))) : GW p l e R s m args below meth c Q (xInv D cx ro A s TL SL t0 s0 σ) (F0 m pc ls rest) := by
  intro H locs cs sl9 hI T hT X9
  have hZ := X.k.2.2.2.2.2.1 _ (List.mem_of_getElem? hj)
  obtain ⟨k, cf, i, a', hk, hcf, hcp, -, hr, hev'⟩ := Cond.stringRef_spec (args := args) X.gx.hown (show (Cond.stringRef "TubBites$Reader" index tx).before args s = true from hZ.1)
  have hev : (Term.string "TubBites$Reader" index).eval args s none [] s = some (.ref (ro (10 + j))) := hZ.2
  cases hev.symm.trans hev'
  obtain ⟨k', hk', he⟩ := X9.warmed.alike.2.2 _ _ hk
  have hr' : k'.resolved[index]? = some (some (.string (ro (10 + j)))) := by
    rcases X9.warmed.entry hk hk' index with h | ⟨h, -⟩
    · rw [h]; exact hr
    · rw [hr] at h; cases h
  obtain ⟨t, a1, b1⟩ := kk H locs cs sl9 hI T hT X9
  refine ⟨t, ?_, b1⟩
  jvm_step X9.here [X.gx.hx, X.gx.hb, d, ldc_w.wp_string (e := e) (s := T) (f := F0 m pc ls rest) X9.here.top hk' (by rw [he]; exact hcf) hcp hr']
  exact a1
/-- a method's start and ends -/
theorem x_of {y : MethodName} {cc : ByteArray} {maxL : Nat} {ret : Option FieldType} {d : Nat} {n : Bool} {w : XW} {as : List Value} {σ : XS} {o : Option Value} {τ : XS} {l9 : List (Nat × Option Value)} (hy : plainName y.cls = true) (hL : (lg_sl as).length ≤ maxL) (hl9 : lq_args 0 as = l9)
    (body : ∀ (p : Program) (e : Env) (s : State) (m : MethodId) (args : Array Value) (below : List Frame) (meth : Method) (c : Code) (ls : Array Slot), XX p m c cc maxL s args meth D cx ro A ret y.cls → GX p m c cc maxL s args meth D clX (tysX cx) ret y.cls → meth.name = y.name → lq ls maxL l9 → lim TL SL σ → ZX p l e d TL SL s m args below meth c D cx ro A n w σ o τ σ (F0 m 0 ls [])) :
    xMet l D cx ro A TL SL y cc maxL ret d n w as σ o τ := by
  refine Met.ofW (cc := cc) (maxL := maxL) (ret := ret) hy rfl ?_
  intro p e s m args below meth c s₁ B hml hv
  obtain ⟨rfl, hP, hK, hlm⟩ := hv
  have hts := atoms_spec (ws := ws_ y cc maxL ret) B.pre
  have hts : ∀ w ∈ lw_all, w.before _ s = true := fun w h => hts w (List.mem_cons_of_mem _ h)
  have hown : s.vm.findClass y.cls = some m.cls := findClass_of_methodNamed B.named
  have hl := lq_of (lv_entry as (n := maxL) hL)
  have hnm : meth.name = y.name := (name_of_methodNamed B.named B.method).1
  rw [lg_entry_eq]
  generalize (lg_sl as ++ List.replicate (maxL - (lg_sl as).length) Slot.unset).toArray = ls at hl ⊢
  have hl : lq ls maxL (lq_args 0 as) := hl
  rw [hl9] at hl
  have G : GX p m c cc maxL s as.toArray meth D clX (tysX cx) ret y.cls := ⟨⟨B.exec, B.bytes, hml, hown, hts⟩, B.returns, B.notSynchronized, hK.1⟩
  exact body p e s m _ below meth c ls ⟨G, hK⟩ G hnm hl hlm s.heap [] 0 0 ⟨hP, va_S.rf, Nat.zero_add _, Nat.zero_add _, hlm⟩
theorem x_iretP {v r : Int32} (X : XX p m c cc nL s args meth D cx ro A (some .int) own) (hF : some v = some r) (ha : agW n w σ0 σ) (d : decode cc pc = .ok (.ireturn, 1)) : GW p l e R s m args below meth c (MQ below (xQ D cx ro A TL SL n w σ0 (some (.int r)) σ) args s (tp σ - tp σ0) (sn σ - sn σ0) A) (xInv D cx ro A s TL SL (tp σ0) (sn σ0) σ) (F0 m pc ls [.int v]) := by
  cases hF
  intro H locs cs sl9 hI
  obtain ⟨hP, hS, hc, hl, hlm⟩ := hI
  have e1 : cs = tp σ - tp σ0 := by omega
  have e2 : sl9 = sn σ - sn σ0 := by omega
  subst e1; subst e2
  exact W.iret X.gx.hx X.gx.hb X.gx.hr (fun t ht hW => ⟨rfl, xHR.moved hW.alike (by rw [ht]; exact hP), ha, hlm, hS.F ht⟩) hS.2.2 d X.gx.hlk
theorem x_iretW {v : Int32} {r : Int32 × XS} (X : XX p m c cc nL s args meth D cx ro A (some .int) own) (hF : some (v, σ) = some r) (ha : agW n w σ0 σ) (d : decode cc pc = .ok (.ireturn, 1)) : GW p l e R s m args below meth c (MQ below (xQ D cx ro A TL SL n w σ0 (some (.int r.1)) r.2) args s (tp r.2 - tp σ0) (sn r.2 - sn σ0) A) (xInv D cx ro A s TL SL (tp σ0) (sn σ0) σ) (F0 m pc ls [.int v]) := by
  cases hF
  intro H locs cs sl9 hI
  obtain ⟨hP, hS, hc, hl, hlm⟩ := hI
  have e1 : cs = tp σ - tp σ0 := by omega
  have e2 : sl9 = sn σ - sn σ0 := by omega
  subst e1; subst e2
  exact W.iret X.gx.hx X.gx.hb X.gx.hr (fun t ht hW => ⟨rfl, xHR.moved hW.alike (by rw [ht]; exact hP), ha, hlm, hS.F ht⟩) hS.2.2 d X.gx.hlk
theorem x_lretP {v r : Int64} (X : XX p m c cc nL s args meth D cx ro A (some .long) own) (hF : some v = some r) (ha : agW n w σ0 σ) (d : decode cc pc = .ok (.lreturn, 1)) : GW p l e R s m args below meth c (MQ below (xQ D cx ro A TL SL n w σ0 (some (.long r)) σ) args s (tp σ - tp σ0) (sn σ - sn σ0) A) (xInv D cx ro A s TL SL (tp σ0) (sn σ0) σ) (F0 m pc ls [.long v]) := by
  cases hF
  intro H locs cs sl9 hI
  obtain ⟨hP, hS, hc, hl, hlm⟩ := hI
  have e1 : cs = tp σ - tp σ0 := by omega
  have e2 : sl9 = sn σ - sn σ0 := by omega
  subst e1; subst e2
  exact W.lret X.gx.hx X.gx.hb X.gx.hr (fun t ht hW => ⟨rfl, xHR.moved hW.alike (by rw [ht]; exact hP), ha, hlm, hS.F ht⟩) hS.2.2 d X.gx.hlk
theorem x_lretW {v : Int64} {r : Int64 × XS} (X : XX p m c cc nL s args meth D cx ro A (some .long) own) (hF : some (v, σ) = some r) (ha : agW n w σ0 σ) (d : decode cc pc = .ok (.lreturn, 1)) : GW p l e R s m args below meth c (MQ below (xQ D cx ro A TL SL n w σ0 (some (.long r.1)) r.2) args s (tp r.2 - tp σ0) (sn r.2 - sn σ0) A) (xInv D cx ro A s TL SL (tp σ0) (sn σ0) σ) (F0 m pc ls [.long v]) := by
  cases hF
  intro H locs cs sl9 hI
  obtain ⟨hP, hS, hc, hl, hlm⟩ := hI
  have e1 : cs = tp σ - tp σ0 := by omega
  have e2 : sl9 = sn σ - sn σ0 := by omega
  subst e1; subst e2
  exact W.lret X.gx.hx X.gx.hb X.gx.hr (fun t ht hW => ⟨rfl, xHR.moved hW.alike (by rw [ht]; exact hP), ha, hlm, hS.F ht⟩) hS.2.2 d X.gx.hlk
theorem x_zretP {v r : Int32} (X : XX p m c cc nL s args meth D cx ro A (some .boolean) own) (hF : some v = some r) (hz : v = 0 ∨ v = 1) (ha : agW n w σ0 σ) (d : decode cc pc = .ok (.ireturn, 1)) : GW p l e R s m args below meth c (MQ below (xQ D cx ro A TL SL n w σ0 (some (.int r)) σ) args s (tp σ - tp σ0) (sn σ - sn σ0) A) (xInv D cx ro A s TL SL (tp σ0) (sn σ0) σ) (F0 m pc ls [.int v]) := by
  cases hF
  intro H locs cs sl9 hI
  obtain ⟨hP, hS, hc, hl, hlm⟩ := hI
  have e1 : cs = tp σ - tp σ0 := by omega
  have e2 : sl9 = sn σ - sn σ0 := by omega
  subst e1; subst e2
  exact W.zret X.gx.hx X.gx.hb X.gx.hr (show narrow .boolean (.int v) = .int v by show Value.int (v &&& 1) = .int v; rw [bz_and hz]) (fun t ht hW => ⟨rfl, xHR.moved hW.alike (by rw [ht]; exact hP), ha, hlm, hS.F ht⟩) hS.2.2 d X.gx.hlk
theorem x_zretW {v : Int32} {r : Int32 × XS} (X : XX p m c cc nL s args meth D cx ro A (some .boolean) own) (hF : some (v, σ) = some r) (hz : v = 0 ∨ v = 1) (ha : agW n w σ0 σ) (d : decode cc pc = .ok (.ireturn, 1)) : GW p l e R s m args below meth c (MQ below (xQ D cx ro A TL SL n w σ0 (some (.int r.1)) r.2) args s (tp r.2 - tp σ0) (sn r.2 - sn σ0) A) (xInv D cx ro A s TL SL (tp σ0) (sn σ0) σ) (F0 m pc ls [.int v]) := by
  cases hF
  intro H locs cs sl9 hI
  obtain ⟨hP, hS, hc, hl, hlm⟩ := hI
  have e1 : cs = tp σ - tp σ0 := by omega
  have e2 : sl9 = sn σ - sn σ0 := by omega
  subst e1; subst e2
  exact W.zret X.gx.hx X.gx.hb X.gx.hr (show narrow .boolean (.int v) = .int v by show Value.int (v &&& 1) = .int v; rw [bz_and hz]) (fun t ht hW => ⟨rfl, xHR.moved hW.alike (by rw [ht]; exact hP), ha, hlm, hS.F ht⟩) hS.2.2 d X.gx.hlk
theorem x_aretP {v r : Option Nat} {rt : FieldType} (X : XX p m c cc nL s args meth D cx ro A (some rt) own) (hF : some v = some r) (hrt : (∃ n, rt = .object n) ∨ ∃ t, rt = .array t) (ha : agW n w σ0 σ) (d : decode cc pc = .ok (.areturn, 1)) : GW p l e R s m args below meth c (MQ below (xQ D cx ro A TL SL n w σ0 (some (va_rf r)) σ) args s (tp σ - tp σ0) (sn σ - sn σ0) A) (xInv D cx ro A s TL SL (tp σ0) (sn σ0) σ) (F0 m pc ls [va_rf v]) := by
  cases hF
  intro H locs cs sl9 hI
  obtain ⟨hP, hS, hc, hl, hlm⟩ := hI
  have e1 : cs = tp σ - tp σ0 := by omega
  have e2 : sl9 = sn σ - sn σ0 := by omega
  subst e1; subst e2
  exact W.aret X.gx.hx X.gx.hb X.gx.hr hrt (by cases v <;> first | exact Or.inl rfl | exact Or.inr ⟨_, rfl⟩) (fun t ht hW => ⟨rfl, xHR.moved hW.alike (by rw [ht]; exact hP), ha, hlm, hS.F ht⟩) hS.2.2 d X.gx.hlk
theorem x_aretW {v : Option Nat} {r : Option Nat × XS} {rt : FieldType} (X : XX p m c cc nL s args meth D cx ro A (some rt) own) (hF : some (v, σ) = some r) (hrt : (∃ n, rt = .object n) ∨ ∃ t, rt = .array t) (ha : agW n w σ0 σ) (d : decode cc pc = .ok (.areturn, 1)) : GW p l e R s m args below meth c (MQ below (xQ D cx ro A TL SL n w σ0 (some (va_rf r.1)) r.2) args s (tp r.2 - tp σ0) (sn r.2 - sn σ0) A) (xInv D cx ro A s TL SL (tp σ0) (sn σ0) σ) (F0 m pc ls [va_rf v]) := by
  cases hF
  intro H locs cs sl9 hI
  obtain ⟨hP, hS, hc, hl, hlm⟩ := hI
  have e1 : cs = tp σ - tp σ0 := by omega
  have e2 : sl9 = sn σ - sn σ0 := by omega
  subst e1; subst e2
  exact W.aret X.gx.hx X.gx.hb X.gx.hr hrt (by cases v <;> first | exact Or.inl rfl | exact Or.inr ⟨_, rfl⟩) (fun t ht hW => ⟨rfl, xHR.moved hW.alike (by rw [ht]; exact hP), ha, hlm, hS.F ht⟩) hS.2.2 d X.gx.hlk
theorem x_vretV {r : XS} (X : XX p m c cc nL s args meth D cx ro A (none) own) (hF : some σ = some r) (ha : agW n w σ0 σ) (d : decode cc pc = .ok (.return_, 1)) : GW p l e R s m args below meth c (MQ below (xQ D cx ro A TL SL n w σ0 none r) args s (tp r - tp σ0) (sn r - sn σ0) A) (xInv D cx ro A s TL SL (tp σ0) (sn σ0) σ) (F0 m pc ls []) := by
  cases hF
  intro H locs cs sl9 hI
  obtain ⟨hP, hS, hc, hl, hlm⟩ := hI
  have e1 : cs = tp σ - tp σ0 := by omega
  have e2 : sl9 = sn σ - sn σ0 := by omega
  subst e1; subst e2
  exact W.vret X.gx.hx X.gx.hb X.gx.hr (fun t ht hW => ⟨rfl, xHR.moved hW.alike (by rw [ht]; exact hP), ha, hlm, hS.F ht⟩) hS.2.2 d X.gx.hlk
end XRows2
