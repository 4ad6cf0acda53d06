section XRows3
variable {p : Program} {l : Launch} {e : Env} {R : Room} {s : State} {m : MethodId} {args : Array Value} {below : List Frame} {meth : Method} {c : Code} {H : Heap} {locs : List Loc} {cells slots : Nat} {Q : State → Prop} {cc : ByteArray} {nL : Nat} {own : String} {D : va_G} {cx ro : Nat → Nat} {A : Nat → Prop} {ret : Option FieldType} {ls : Array Slot} {lq0 : List (Nat × Option Value)} {pc : Nat} {rest st : List Value} {n : Bool} {w : XW} {σ σ0 τ : XS} {o : Option Value} {TL SL t0 s0 : Nat}
theorem ble_of {a b : Nat} (h : a ≤ b) : Nat.ble a b = true := Nat.ble_eq.mpr h
def nnO {α : Type} (r : Option Nat) (k : Nat → Option α) : Option α := match r with
  | none => none
  | some q => k q
theorem nnO_i {α : Type} {r : Option Nat} {k : Nat → Option α} {res : α} (h : nnO r k = some res) : ∃ q, r = some q ∧ k q = some res := by
  cases r with
  | none => cases h
  | some q => exact ⟨q, rfl, h⟩
/-- one of the Try objects -/
def nnS {α : Type} (σ : XS) (r : Option Nat) (k : Nat → Option α) : Option α := match r with
  | none => none
  | some q => if 50 ≤ tg σ q ∧ tg σ q ≤ 54 then k q else none
theorem nnS_i {α : Type} {r : Option Nat} {k : Nat → Option α} {res : α} (h : nnS σ r k = some res) : ∃ q, r = some q ∧ ∃ k9, k9 < 5 ∧ tg σ q = 50 + k9 ∧ k q = some res := by
  cases r with
  | none => cases h
  | some q =>
    simp only [nnS] at h
    split at h
    · rename_i ht
      exact ⟨q, rfl, tg σ q - 50, by omega, by omega, h⟩
    · cases h
theorem x_newA0 {α : Type} {res : α} {d : Nat} {n9 : Int32} {kf : Option Nat → XS → Option α} (X : XX p m c cc nL s args meth D cx ro A ret own) (hF : nwA TL SL σ 100 n9 kf = some res) (ha : agW true w σ0 σ) (dec : decode cc pc = .ok (.newarray .int, 2))
    (kk : ∀ q σ1, kf (some q) σ1 = some res → agW true w σ0 σ1 → GW p l e (xRoom d (TL - t0) (SL - s0)) s m args below meth c Q (xInv D cx ro A s TL SL t0 s0 σ1) (F0 m (pc + 2) ls (.ref q :: rest))) : GW p l e (xRoom d (TL - t0) (SL - s0)) s m args below meth c Q (xInv D cx ro A s TL SL t0 s0 σ) (F0 m pc ls (.int n9 :: rest)) :=
  x_newA (t := 0) (ty := .int) X ⟨rfl, rfl⟩ hF (by decide) rfl rfl rfl rfl (fun h => h) q230 ha dec kk
theorem x_newA1 {α : Type} {res : α} {d : Nat} {n9 : Int32} {kf : Option Nat → XS → Option α} (X : XX p m c cc nL s args meth D cx ro A ret own) (hF : nwA TL SL σ 101 n9 kf = some res) (ha : agW true w σ0 σ) (dec : decode cc pc = .ok (.newarray .byte, 2))
    (kk : ∀ q σ1, kf (some q) σ1 = some res → agW true w σ0 σ1 → GW p l e (xRoom d (TL - t0) (SL - s0)) s m args below meth c Q (xInv D cx ro A s TL SL t0 s0 σ1) (F0 m (pc + 2) ls (.ref q :: rest))) : GW p l e (xRoom d (TL - t0) (SL - s0)) s m args below meth c Q (xInv D cx ro A s TL SL t0 s0 σ) (F0 m pc ls (.int n9 :: rest)) :=
  x_newA (t := 1) (ty := .byte) X ⟨rfl, rfl⟩ hF (by decide) rfl rfl rfl rfl (fun h => h) q304 ha dec kk
/-- the end of the chain of constructors -/
theorem x_objI {d index q : Nat} (X : XX p m c cc nL s args meth D cx ro A ret own) (h : lq ls nL lq0) (hlink : Cond.methodLink own index Lib.objectInit ∈ lw_all) (hd : Nat.ble 1 d = true) (dec : decode cc pc = .ok (.invokespecial index, 3))
    (kk : GW p l e (xRoom d (TL - t0) (SL - s0)) s m args below meth c Q (xInv D cx ro A s TL SL t0 s0 σ) (F0 m (pc + 3) ls [])) : GW p l e (xRoom d (TL - t0) (SL - s0)) s m args below meth c Q (xInv D cx ro A s TL SL t0 s0 σ) (F0 m pc ls [.ref q]) := by
  intro H locs cs sl9 hI
  obtain ⟨hexec, hb, hml, hown, hts⟩ := X.gx.1
  have hd := Nat.le_of_ble_eq_true hd
  exact W.objInit (a := q) (rest := []) hexec hb hown (hts _ hlink) (hts _ q182) (hts _ q183) rfl (h.1.trans hml.symm) rfl dec (show 1 ≤ d from hd) (show 2 * 0 + 0 + 12 ≤ 60 * d by omega) (kk H locs cs sl9 hI)
/-- a run may be told with more columns -/
theorem x_wk {n2 n3 : Bool} {w2 w3 : XW} {g : JFrame} {o : Option Value} {a : Array Value} (hs : (xsub w2 w3 && (!n2 || n3)) = true) (hr : RunX p l e R s m args below meth c D cx ro A TL SL t0 s0 g rest n2 w2 σ o τ a) : RunX p l e R s m args below meth c D cx ro A TL SL t0 s0 g rest n3 w3 σ o τ a := by
  intro H locs cs sl9 hI T hT X9
  obtain ⟨v, st₀, t, T', L, h0, X', hL, e1, e2, ⟨hv, hP, ha, hlm, hz, hk⟩, st9⟩ := hr H locs cs sl9 hI T hT X9
  exact ⟨v, st₀, t, T', L, h0, X', hL, e1, e2, ⟨hv, hP, agW.tr agW.rf ha hs, hlm, hz, hk⟩, st9⟩
/-! System.arraycopy -/
def wA (σ : XS) (q : Nat) (f : Nat → Int32) : XS := (σ.1, σ.2.1, σ.2.2.1, σ.2.2.2.1, σ.2.2.2.2.1, (fun x => if x = q then f else σ.2.2.2.2.2.1 x), σ.2.2.2.2.2.2)
def wQ (σ : XS) (q : Nat) (f : Nat → Option Nat) : XS := (σ.1, σ.2.1, σ.2.2.1, σ.2.2.2.1, σ.2.2.2.2.1, σ.2.2.2.2.2.1, (fun x => if x = q then f else σ.2.2.2.2.2.2.1 x), σ.2.2.2.2.2.2.2)
theorem agX.wA {w : XW} {σ τ : XS} (h : agX w σ τ) {q : Nat} {f : Nat → Int32} (hk : w.2.2.2.1 = true) : agX w σ (wA τ q f) :=
  ⟨h.1, h.2.1, h.2.2.1, h.2.2.2.1, h.2.2.2.2.1, fun e => (by rw [hk] at e; cases e), h.2.2.2.2.2.2.1, h.2.2.2.2.2.2.2.1, h.2.2.2.2.2.2.2.2⟩
theorem agX.wQ {w : XW} {σ τ : XS} (h : agX w σ τ) {q : Nat} {f : Nat → Option Nat} (hk : w.2.2.2.2 = true) : agX w σ (wQ τ q f) :=
  ⟨h.1, h.2.1, h.2.2.1, h.2.2.2.1, h.2.2.2.2.1, h.2.2.2.2.2.1, fun e => (by rw [hk] at e; cases e), h.2.2.2.2.2.2.2.1, h.2.2.2.2.2.2.2.2⟩
def cpA {α : Type} (σ : XS) (src : Option Nat) (sp : Int32) (dst : Option Nat) (dp n : Int32) (k : XS → Option α) : Option α := match src, dst with
  | some a, some b => if tg σ a = 100 ∧ tg σ b = 100 ∧ 0 ≤ sp ∧ 0 ≤ dp ∧ 0 ≤ n ∧ sp.toNatClampNeg + n.toNatClampNeg ≤ ln σ a ∧ dp.toNatClampNeg + n.toNatClampNeg ≤ ln σ b then k (wA σ b (va_cpy (aI σ a) (aI σ b) sp.toNatClampNeg dp.toNatClampNeg n.toNatClampNeg)) else none
  | _, _ => none
def cpQ {α : Type} (σ : XS) (src : Option Nat) (sp : Int32) (dst : Option Nat) (dp n : Int32) (k : XS → Option α) : Option α := match src, dst with
  | some a, some b => if tg σ a = 102 ∧ tg σ b = 102 ∧ 0 ≤ sp ∧ 0 ≤ dp ∧ 0 ≤ n ∧ sp.toNatClampNeg + n.toNatClampNeg ≤ ln σ a ∧ dp.toNatClampNeg + n.toNatClampNeg ≤ ln σ b ∧ (∀ i, i < n.toNatClampNeg → okQ σ 102 (aR σ a (sp.toNatClampNeg + i)) = true) then k (wQ σ b (va_cpy (aR σ a) (aR σ b) sp.toNatClampNeg dp.toNatClampNeg n.toNatClampNeg)) else none
  | _, _ => none
theorem nn32 {z : Int32} (hz : ¬ z < 0) : z.toInt = (z.toNatClampNeg : Int) := by
  have hz0 : (0 : Int) ≤ z.toInt := by
    have := Int32.not_lt.mp hz
    simpa using Int32.le_iff_toInt_le.mp this
  show z.toInt = ((z.toInt.toNat : Nat) : Int)
  omega
theorem lv_sum : ∀ {rest : List Value}, rest.length ≤ 4 → (rest.map fun v => v.category).sum ≤ 8 := fun {rest} h => cat_room (Nat.ble_eq.mpr h)
theorem x_locs {a i9 cs sl9 : Nat} {L : List Loc} (hI : xInv D cx ro A s TL SL t0 s0 σ H (locs ++ [⟨a, i9⟩]) cs sl9) (hL : ∀ z ∈ L, A z.base) : xInv D cx ro A s TL SL t0 s0 σ H (locs ++ L) cs sl9 :=
  ⟨hI.1, ⟨hI.2.1.1, hI.2.1.2.1, fun z hz => by
    rcases List.mem_append.mp hz with h | h
    · exact hI.2.1.2.2 z (List.mem_append_left _ h)
    · exact hL z h⟩, hI.2.2⟩
theorem x_cpA {α : Type} {res : α} {d index : Nat} {src dst : Option Nat} {sp dp n9 : Int32} {kf : XS → Option α} (X : XX p m c cc nL s args meth D cx ro A ret own) (h : lq ls nL lq0) (hF : cpA σ src sp dst dp n9 kf = some res) (ha : agW n w σ0 σ) (hw : w.2.2.2.1 = true) (hlink : Cond.methodLink own index arraycopyName ∈ lw_all) (hd : Nat.ble 1 d = true) (hroom : Nat.ble rest.length 4 = true) (dec : decode cc pc = .ok (.invokestatic index, 3))
    (kk : ∀ σ1, kf σ1 = some res → agW n w σ0 σ1 → GW p l e (xRoom d (TL - t0) (SL - s0)) s m args below meth c Q (xInv D cx ro A s TL SL t0 s0 σ1) (F0 m (pc + 3) ls rest)) : GW p l e (xRoom d (TL - t0) (SL - s0)) s m args below meth c Q (xInv D cx ro A s TL SL t0 s0 σ) (F0 m pc ls (.int n9 :: .int dp :: va_rf dst :: .int sp :: va_rf src :: rest)) := by
  intro H locs cs sl9 hI
  cases src with
  | none => cases hF
  | some a0 =>
    cases dst with
    | none => cases hF
    | some a =>
      simp only [cpA] at hF
      split at hF
      · rename_i hg
        obtain ⟨ht0, ht1, h1, h2, h3, h4, h5⟩ := hg
        have h1 : ¬ sp < 0 := Int32.not_lt.mpr h1
        have h2 : ¬ dp < 0 := Int32.not_lt.mpr h2
        have h3 : ¬ n9 < 0 := Int32.not_lt.mpr h3
        obtain ⟨hexec, hb, hml, hown, hts⟩ := X.gx.1
        have hd := Nat.le_of_ble_eq_true hd
        have hsum := lv_sum (Nat.le_of_ble_eq_true hroom)
        intro T hT X9
        have e1 : ∀ (ρ : XS) (q : Nat), xC ρ 0 q = (ln ρ q, .inl (aI ρ q)) := fun _ _ => rfl
        have hc0 := (x_arr (t := 0) hI ht0 (by decide)).1
        have hc1 := (x_arr (t := 0) hI ht1 (by decide)).1
        rw [e1] at hc0 hc1
        obtain ⟨-, k0, hk0, cm0, hkk0⟩ := (X.k.1.2 0 _ rfl).1 (ln σ a0) (fun j => .int (aI σ a0 j))
        obtain ⟨-, k1, hk1, cm1, hkk1⟩ := (X.k.1.2 0 _ rfl).1 (ln σ a) (fun j => .int (aI σ a j))
        obtain ⟨vm', X', step⟩ := X9.arraycopy hexec hown (hts _ hlink) (hts _ q811) (hts _ q810) (hts _ q171) (src := a0) (dst := a) (cs := vp_cell (cx 0) (ln σ a0, .inl (aI σ a0))) (cd := vp_cell (cx 0) (ln σ a, .inl (aI σ a))) (srcPos := sp) (destPos := dp) (n := n9) (by rw [hT]; exact hc0) (by rw [hT]; exact hc1)
          (fun _ h => by cases h) (fun _ h => by cases h) (fun h => by cases h) (fun h => by cases h) hk0 hk1 hkk0 hkk1 rfl h1 h2 h3
          (by rw [nn32 h1, nn32 h3]; show ¬ _ > ((arrV (cx 0) (ln σ a0) (fun j => .int (aI σ a0 j))).slots.size : Int); rw [arrV_size]; omega)
          (by rw [nn32 h2, nn32 h3]; show ¬ _ > ((arrV (cx 0) (ln σ a) (fun j => .int (aI σ a j))).slots.size : Int); rw [arrV_size]; omega)
          (fun vm₁ _ i hi => by
            have e : (vp_cell (cx 0) (ln σ a0, .inl (aI σ a0))).slots.getD (sp.toNatClampNeg + i) .null = .int (aI σ a0 (sp.toNatClampNeg + i)) := by
              show (arrV (cx 0) (ln σ a0) (fun j => .int (aI σ a0 j))).slots.getD _ _ = _
              rw [Array.getD_eq_getD_getElem?, arrV_read _ _ (by omega)]
              rfl
            refine ⟨?_, ?_⟩
            · rw [e]
              rfl
            · rw [e]
              exact trivial)
          (g := F0 m pc ls (.int n9 :: .int dp :: .ref a :: .int sp :: .ref a0 :: rest)) rfl (h.1.trans hml.symm) (rest := rest) rfl (by rw [hb]; exact dec) (show 1 ≤ d from hd) (by show 2 * 0 + _ + _ ≤ 60 * d; have : nativeFrameWords "java/lang/System" "arraycopy" 5 ≤ 30 := (by decide); omega)
        have e2 : copied (vp_cell (cx 0) (ln σ a0, .inl (aI σ a0))) (vp_cell (cx 0) (ln σ a, .inl (aI σ a))) sp dp n9 = vp_cell (cx 0) (ln σ a, .inl (va_cpy (aI σ a0) (aI σ a) sp.toNatClampNeg dp.toNatClampNeg n9.toNatClampNeg)) := va_copied (fun z => .int z) (cx 0) (cx 0) (aI σ a0) (aI σ a) h4
        rw [e2] at X' step
        have hl : a < H.size := (Array.getElem?_eq_some_iff.mp hc1).1
        generalize hnew : vp_cell (cx 0) (ln σ a, .inl (va_cpy (aI σ a0) (aI σ a) sp.toNatClampNeg dp.toNatClampNeg n9.toNatClampNeg)) = new at X' step
        have hheap : ((T.setVm vm').setCell a new).heap = H.setIfInBounds a new := by rw [← hT]; rfl
        have oq : ∀ q : Nat, q ≠ a → (H.setIfInBounds a new)[q]? = H[q]? := fun q hq => by simp [Array.getElem?_setIfInBounds, Ne.symm hq]
        have hAa := (x_arr (t := 0) hI ht1 (by decide)).2
        have hI2 := x_astored (τ := wA σ a (va_cpy (aI σ a0) (aI σ a) sp.toNatClampNeg dp.toNatClampNeg n9.toNatClampNeg)) (i9 := 0) (H1 := H.setIfInBounds a new) (t := 0) hI ht1 (by decide) (by
          rw [e1]
          have g1 : aI (wA σ a (va_cpy (aI σ a0) (aI σ a) sp.toNatClampNeg dp.toNatClampNeg n9.toNatClampNeg)) a = va_cpy (aI σ a0) (aI σ a) sp.toNatClampNeg dp.toNatClampNeg n9.toNatClampNeg := if_pos rfl
          rw [g1]
          show _ = some (vp_cell (cx 0) (ln σ a, _))
          rw [hnew]
          simp [Array.getElem?_setIfInBounds, hl]) (by simp) oq rfl rfl rfl rfl rfl rfl rfl (fun x hx => if_neg hx) (fun x _ => rfl)
        obtain ⟨t, a1, b1⟩ := kk _ hF (ha.w1 (agX.rf.wA hw)) _ _ cs sl9 (x_locs hI2 (fun z hz => by
          obtain ⟨z1, -, hz1⟩ := List.mem_map.mp hz
          rw [← hz1]
          exact hAa)) _ hheap X'
        exact ⟨t, step t a1, b1⟩
      · cases hF
theorem x_cpQ {α : Type} {res : α} {d index : Nat} {src dst : Option Nat} {sp dp n9 : Int32} {kf : XS → Option α} (X : XX p m c cc nL s args meth D cx ro A ret own) (h : lq ls nL lq0) (hF : cpQ σ src sp dst dp n9 kf = some res) (ha : agW n w σ0 σ) (hw : w.2.2.2.2 = true) (hlink : Cond.methodLink own index arraycopyName ∈ lw_all) (hd : Nat.ble 1 d = true) (hroom : Nat.ble rest.length 4 = true) (dec : decode cc pc = .ok (.invokestatic index, 3))
    (kk : ∀ σ1, kf σ1 = some res → agW n w σ0 σ1 → GW p l e (xRoom d (TL - t0) (SL - s0)) s m args below meth c Q (xInv D cx ro A s TL SL t0 s0 σ1) (F0 m (pc + 3) ls rest)) : GW p l e (xRoom d (TL - t0) (SL - s0)) s m args below meth c Q (xInv D cx ro A s TL SL t0 s0 σ) (F0 m pc ls (.int n9 :: .int dp :: va_rf dst :: .int sp :: va_rf src :: rest)) := by
  intro H locs cs sl9 hI
  cases src with
  | none => cases hF
  | some a0 =>
    cases dst with
    | none => cases hF
    | some a =>
      simp only [cpQ] at hF
      split at hF
      · rename_i hg
        obtain ⟨ht0, ht1, h1, h2, h3, h4, h5, h6⟩ := hg
        have h1 : ¬ sp < 0 := Int32.not_lt.mpr h1
        have h2 : ¬ dp < 0 := Int32.not_lt.mpr h2
        have h3 : ¬ n9 < 0 := Int32.not_lt.mpr h3
        obtain ⟨hexec, hb, hml, hown, hts⟩ := X.gx.1
        have hd := Nat.le_of_ble_eq_true hd
        have hsum := lv_sum (Nat.le_of_ble_eq_true hroom)
        intro T hT X9
        have e1 : ∀ (ρ : XS) (q : Nat), xC ρ 2 q = (ln ρ q, .inr (.inr (.inr (.inr (aR ρ q))))) := fun _ _ => rfl
        have hc0 := (x_arr (t := 2) hI ht0 (by decide)).1
        have hc1 := (x_arr (t := 2) hI ht1 (by decide)).1
        rw [e1] at hc0 hc1
        obtain ⟨-, k0, hk0, cm0, hkk0⟩ := (X.k.1.2 2 _ rfl).1 (ln σ a0) (fun j => va_rf (aR σ a0 j))
        obtain ⟨-, k1, hk1, cm1, hkk1⟩ := (X.k.1.2 2 _ rfl).1 (ln σ a) (fun j => va_rf (aR σ a j))
        obtain ⟨vm', X', step⟩ := X9.arraycopy hexec hown (hts _ hlink) (hts _ q811) (hts _ q810) (hts _ q171) (src := a0) (dst := a) (cs := vp_cell (cx 2) (ln σ a0, .inr (.inr (.inr (.inr (aR σ a0)))))) (cd := vp_cell (cx 2) (ln σ a, .inr (.inr (.inr (.inr (aR σ a)))))) (srcPos := sp) (destPos := dp) (n := n9) (by rw [hT]; exact hc0) (by rw [hT]; exact hc1)
          (fun _ h => by cases h) (fun _ h => by cases h) (fun h => by cases h) (fun h => by cases h) hk0 hk1 hkk0 hkk1 rfl h1 h2 h3
          (by rw [nn32 h1, nn32 h3]; show ¬ _ > ((arrV (cx 2) (ln σ a0) (fun j => va_rf (aR σ a0 j))).slots.size : Int); rw [arrV_size]; omega)
          (by rw [nn32 h2, nn32 h3]; show ¬ _ > ((arrV (cx 2) (ln σ a) (fun j => va_rf (aR σ a j))).slots.size : Int); rw [arrV_size]; omega)
          (fun vm₁ hal9 i hi => by
            have e : (vp_cell (cx 2) (ln σ a0, .inr (.inr (.inr (.inr (aR σ a0)))))).slots.getD (sp.toNatClampNeg + i) .null = va_rf (aR σ a0 (sp.toNatClampNeg + i)) := by
              show (arrV (cx 2) (ln σ a0) (fun j => va_rf (aR σ a0 j))).slots.getD _ _ = _
              rw [Array.getD_eq_getD_getElem?, arrV_read _ _ (by omega)]
              rfl
            rw [e]
            cases hy : aR σ a0 (sp.toNatClampNeg + i) with
            | none => exact ⟨rfl, trivial⟩
            | some y =>
              have hok := h6 i hi
              rw [hy] at hok
              simp only [okQ, Bool.and_eq_true, Nat.ble_eq] at hok
              obtain ⟨cj, hcj⟩ : ∃ cj, tg σ y = cj + 1 := ⟨tg σ y - 1, by omega⟩
              obtain ⟨r', hr'⟩ : ∃ r', clX[cj]? = some r' := by
                have : cj < clX.length := by show cj < 15; omega
                exact ⟨_, List.getElem?_eq_getElem this⟩
              obtain ⟨⟨cellV, g1, g2, g3, -⟩, -⟩ := x_obj hI hcj hr'
              have hcls := (X.k.1.1 cj _ hr').2
              obtain ⟨kA, comp, r1, r2, r3, -⟩ := (X.k.1.2 2 _ rfl).2
              cases hk1.symm.trans r1
              cases hkk1.symm.trans r2
              obtain ⟨kC, hkC, -⟩ := hcls.2
              obtain ⟨kE, hkE, -⟩ := Vm.findClass_spec r3
              obtain ⟨kC', hkC', -⟩ := hal9.2.2 _ _ hkC
              obtain ⟨kE', hkE', -⟩ := hal9.2.2 _ _ hkE
              refine ⟨rfl, cellV, (show T.heap[y]? = some cellV by rw [hT]; exact g1), (fun q h => by rw [g3] at h; cases h), ⟨kC', by rw [g2]; exact hkC'⟩, ?_, ?_⟩
              · exact ⟨kE', hkE'⟩
              · show vm₁.assignable _ _ = true
                rw [hal9.assignable, g2]
                obtain ⟨c0, t1, f1, f2, f3⟩ := Cond.castable_spec (va_Nw.use (A := args) rfl (X.k.2.1 _ (castO cj r' hr')))
                cases hcls.1.symm.trans f1
                cases r3.symm.trans f2
                exact f3)
          (g := F0 m pc ls (.int n9 :: .int dp :: .ref a :: .int sp :: .ref a0 :: rest)) rfl (h.1.trans hml.symm) (rest := rest) rfl (by rw [hb]; exact dec) (show 1 ≤ d from hd) (by show 2 * 0 + _ + _ ≤ 60 * d; have : nativeFrameWords "java/lang/System" "arraycopy" 5 ≤ 30 := (by decide); omega)
        have e2 : copied (vp_cell (cx 2) (ln σ a0, .inr (.inr (.inr (.inr (aR σ a0)))))) (vp_cell (cx 2) (ln σ a, .inr (.inr (.inr (.inr (aR σ a)))))) sp dp n9 = vp_cell (cx 2) (ln σ a, .inr (.inr (.inr (.inr (va_cpy (aR σ a0) (aR σ a) sp.toNatClampNeg dp.toNatClampNeg n9.toNatClampNeg))))) := va_copied (fun z => va_rf z) (cx 2) (cx 2) (aR σ a0) (aR σ a) h4
        rw [e2] at X' step
        have hl : a < H.size := (Array.getElem?_eq_some_iff.mp hc1).1
        generalize hnew : vp_cell (cx 2) (ln σ a, .inr (.inr (.inr (.inr (va_cpy (aR σ a0) (aR σ a) sp.toNatClampNeg dp.toNatClampNeg n9.toNatClampNeg))))) = new at X' step
        have hheap : ((T.setVm vm').setCell a new).heap = H.setIfInBounds a new := by rw [← hT]; rfl
        have oq : ∀ q : Nat, q ≠ a → (H.setIfInBounds a new)[q]? = H[q]? := fun q hq => by simp [Array.getElem?_setIfInBounds, Ne.symm hq]
        have hAa := (x_arr (t := 2) hI ht1 (by decide)).2
        have hI2 := x_astored (τ := wQ σ a (va_cpy (aR σ a0) (aR σ a) sp.toNatClampNeg dp.toNatClampNeg n9.toNatClampNeg)) (i9 := 0) (H1 := H.setIfInBounds a new) (t := 2) hI ht1 (by decide) (by
          rw [e1]
          have g1 : aR (wQ σ a (va_cpy (aR σ a0) (aR σ a) sp.toNatClampNeg dp.toNatClampNeg n9.toNatClampNeg)) a = va_cpy (aR σ a0) (aR σ a) sp.toNatClampNeg dp.toNatClampNeg n9.toNatClampNeg := if_pos rfl
          rw [g1]
          show _ = some (vp_cell (cx 2) (ln σ a, _))
          rw [hnew]
          simp [Array.getElem?_setIfInBounds, hl]) (by simp) oq rfl rfl rfl rfl rfl rfl rfl (fun x _ => rfl) (fun x hx => if_neg hx)
        obtain ⟨t, a1, b1⟩ := kk _ hF (ha.w1 (agX.rf.wQ hw)) _ _ cs sl9 (x_locs hI2 (fun z hz => by
          obtain ⟨z1, -, hz1⟩ := List.mem_map.mp hz
          rw [← hz1]
          exact hAa)) _ hheap X'
        exact ⟨t, step t a1, b1⟩
      · cases hF
/-! Arrays.copyOf: NOT YET (answers none) -/
def wx_Arrays_copyOf : XW := ([], [], [], false, false)
def X_Arrays_copyOf (_TL _SL : Nat) (_σ : XS) (_r : Option Nat) (_n : Int32) : Option (Option Nat × XS) := none
theorem xr_Arrays_copyOf {d index : Nat} {r : Option Nat} {n9 : Int32} {z : Option Nat × XS} (X : XX p m c cc nL s args meth D cx ro A ret own) (_h : lq ls nL lq0) (hM : X_Arrays_copyOf TL SL σ r n9 = some z) (_hq : Cond.methodLink own index ⟨"java/util/Arrays", "copyOf", "([Ljava/lang/Object;I)[Ljava/lang/Object;"⟩ ∈ lw_all) (_hd1 : Nat.ble 6 d = true) (_hst : st = .int n9 :: va_rf r :: rest) (_hroom : Nat.ble rest.length 4 = true) (_dec : decode cc pc = .ok (.invokestatic index, 3)) :
    RunX p l e (xRoom d (TL - t0) (SL - s0)) s m args below meth c D cx ro A TL SL t0 s0 (F0 m pc ls st) rest true wx_Arrays_copyOf σ (some (va_rf z.1)) z.2 [va_rf r, .int n9].toArray := by
  cases hM
/-! Math's three, by the library's contracts -/
def mxI (x y : Int32) : Int32 := if x < y then y else x
def mnI (x y : Int32) : Int32 := if y < x then y else x
def abI (x : Int32) : Int32 := if 0 ≤ x then x else 0 - x
theorem x_mroom {cs sl9 d : Nat} (hI : xInv D cx ro A s TL SL t0 s0 σ H locs cs sl9) : cs ≤ (xRoom d (TL - t0) (SL - s0)).cells ∧ sl9 ≤ (xRoom d (TL - t0) (SL - s0)).slots := by
  obtain ⟨-, -, h1, h2, h3, h4⟩ := hI
  show cs ≤ TL - t0 ∧ sl9 ≤ SL - s0
  omega
theorem x_mmax {d index : Nat} {x y : Int32} (X : XX p m c cc nL s args meth D cx ro A ret own) (h : lq ls nL lq0) (hlink : Cond.methodLink own index Lib.Math.max.name ∈ lw_all) (hd : Nat.ble 1 d = true) (hroom : Nat.ble rest.length 4 = true) (dec : decode cc pc = .ok (.invokestatic index, 3))
    (kk : GW p l e (xRoom d (TL - t0) (SL - s0)) s m args below meth c Q (xInv D cx ro A s TL SL t0 s0 σ) (F0 m (pc + 3) ls (.int (mxI x y) :: rest))) : GW p l e (xRoom d (TL - t0) (SL - s0)) s m args below meth c Q (xInv D cx ro A s TL SL t0 s0 σ) (F0 m pc ls (.int y :: .int x :: rest)) := by
  intro H locs cs sl9 hI
  obtain ⟨hexec, hb, hml, hown, hts⟩ := X.gx.1
  have hd := Nat.le_of_ble_eq_true hd
  have hsum := lv_sum (Nat.le_of_ble_eq_true hroom)
  exact va_mmax hexec hb (hml.trans h.1.symm) hown (hts _ hlink) (hts _ q766) (hts _ q169) (hts _ q767) (show 1 ≤ d from hd) (show _ ≤ 60 * d by omega) (x_mroom (d := d) hI).1 (x_mroom (d := d) hI).2 dec (kk H locs cs sl9 hI)
theorem x_mmin {d index : Nat} {x y : Int32} (X : XX p m c cc nL s args meth D cx ro A ret own) (h : lq ls nL lq0) (hlink : Cond.methodLink own index Lib.Math.min.name ∈ lw_all) (hd : Nat.ble 1 d = true) (hroom : Nat.ble rest.length 4 = true) (dec : decode cc pc = .ok (.invokestatic index, 3))
    (kk : GW p l e (xRoom d (TL - t0) (SL - s0)) s m args below meth c Q (xInv D cx ro A s TL SL t0 s0 σ) (F0 m (pc + 3) ls (.int (mnI x y) :: rest))) : GW p l e (xRoom d (TL - t0) (SL - s0)) s m args below meth c Q (xInv D cx ro A s TL SL t0 s0 σ) (F0 m pc ls (.int y :: .int x :: rest)) := by
  intro H locs cs sl9 hI
  obtain ⟨hexec, hb, hml, hown, hts⟩ := X.gx.1
  have hd := Nat.le_of_ble_eq_true hd
  have hsum := lv_sum (Nat.le_of_ble_eq_true hroom)
  exact va_mmin hexec hb (hml.trans h.1.symm) hown (hts _ hlink) (hts _ q807) (hts _ q169) (hts _ q808) (show 1 ≤ d from hd) (show _ ≤ 60 * d by omega) (x_mroom (d := d) hI).1 (x_mroom (d := d) hI).2 dec (kk H locs cs sl9 hI)
theorem x_mabs {d index : Nat} {x : Int32} (X : XX p m c cc nL s args meth D cx ro A ret own) (h : lq ls nL lq0) (hlink : Cond.methodLink own index Lib.Math.abs.name ∈ lw_all) (hd : Nat.ble 1 d = true) (hroom : Nat.ble rest.length 4 = true) (dec : decode cc pc = .ok (.invokestatic index, 3))
    (kk : GW p l e (xRoom d (TL - t0) (SL - s0)) s m args below meth c Q (xInv D cx ro A s TL SL t0 s0 σ) (F0 m (pc + 3) ls (.int (abI x) :: rest))) : GW p l e (xRoom d (TL - t0) (SL - s0)) s m args below meth c Q (xInv D cx ro A s TL SL t0 s0 σ) (F0 m pc ls (.int x :: rest)) := by
  intro H locs cs sl9 hI
  obtain ⟨hexec, hb, hml, hown, hts⟩ := X.gx.1
  have hd := Nat.le_of_ble_eq_true hd
  have hsum := lv_sum (Nat.le_of_ble_eq_true hroom)
  exact va_mabs hexec hb (hml.trans h.1.symm) hown (hts _ hlink) (hts _ q1038) (hts _ q169) (hts _ q1039) (show 1 ≤ d from hd) (show _ ≤ 60 * d by omega) (x_mroom (d := d) hI).1 (x_mroom (d := d) hI).2 dec (kk H locs cs sl9 hI)
end XRows3
