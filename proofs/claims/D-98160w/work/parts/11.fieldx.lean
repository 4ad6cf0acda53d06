section XF
variable {p : Program} {l : Launch} {e : Env} {R : Room} {s : State} {m : MethodId} {args : Array Value} {below : List Frame} {meth : Method} {c : Code} {Q : State → Prop} {cc : ByteArray} {nL : Nat} {D : va_G} {cx ro : Nat → Nat} {A : Nat → Prop} {ret : Option FieldType} {ls : Array Slot} {pc : Nat} {rest : List Value} {n : Bool} {w : XW} {σ σ0 : XS} {TL SL t0 s0 : Nat} {α : Type} {res : α}
theorem xg_J2_9 {r : Option Nat} {kf : Option Nat → Option α} (X : XX p m c cc nL s args meth D cx ro A ret "java/util/ArrayList") (hF : gxR σ 3 65 r kf = some res) (d : decode cc pc = .ok (.getfield 9, 3)) (kk : ∀ v, kf v = some res → GW p l e R s m args below meth c Q (xInv D cx ro A s TL SL t0 s0 σ) (F0 m (pc + 3) ls (va_rf v :: rest))) : GW p l e R s m args below meth c Q (xInv D cx ro A s TL SL t0 s0 σ) (F0 m pc ls (va_rf r :: rest)) := by
  cases r with
  | none => cases hF
  | some q =>
    simp only [gxR] at hF
    split at hF
    · rename_i ht
      exact x_getV (ci := 2) (k := 1) X rfl rfl q206 (fun _ h => h) ht (show xV σ 2 q 1 = _ from rfl) d (kk _ hF)
    · cases hF
theorem xg_J2_48 {r : Option Nat} {kf : Int32 → Option α} (X : XX p m c cc nL s args meth D cx ro A ret "java/util/ArrayList") (hF : gxI σ 3 66 r kf = some res) (d : decode cc pc = .ok (.getfield 48, 3)) (kk : ∀ v, kf v = some res → GW p l e R s m args below meth c Q (xInv D cx ro A s TL SL t0 s0 σ) (F0 m (pc + 3) ls (.int v :: rest))) : GW p l e R s m args below meth c Q (xInv D cx ro A s TL SL t0 s0 σ) (F0 m pc ls (va_rf r :: rest)) := by
  cases r with
  | none => cases hF
  | some q =>
    simp only [gxI] at hF
    split at hF
    · rename_i ht
      exact x_getV (ci := 2) (k := 2) X rfl rfl q207 (fun _ h => h) ht (show xV σ 2 q 2 = _ from rfl) d (kk _ hF)
    · cases hF
theorem xg_J2_63 {r : Option Nat} {kf : Int32 → Option α} (X : XX p m c cc nL s args meth D cx ro A ret "java/util/ArrayList") (hF : gxI σ 3 64 r kf = some res) (d : decode cc pc = .ok (.getfield 63, 3)) (kk : ∀ v, kf v = some res → GW p l e R s m args below meth c Q (xInv D cx ro A s TL SL t0 s0 σ) (F0 m (pc + 3) ls (.int v :: rest))) : GW p l e R s m args below meth c Q (xInv D cx ro A s TL SL t0 s0 σ) (F0 m pc ls (va_rf r :: rest)) := by
  cases r with
  | none => cases hF
  | some q =>
    simp only [gxI] at hF
    split at hF
    · rename_i ht
      exact x_getV (ci := 2) (k := 0) X rfl rfl q209 (fun x hx => u_same (X.gx.hts _ q210) x hx) ht (show xV σ 2 q 0 = _ from rfl) d (kk _ hF)
    · cases hF
theorem xg_X0_12 {r : Option Nat} {kf : Option Nat → Option α} (X : XX p m c cc nL s args meth D cx ro A ret "TubBites") (hF : gxR σ 1 0 r kf = some res) (d : decode cc pc = .ok (.getfield 12, 3)) (kk : ∀ v, kf v = some res → GW p l e R s m args below meth c Q (xInv D cx ro A s TL SL t0 s0 σ) (F0 m (pc + 3) ls (va_rf v :: rest))) : GW p l e R s m args below meth c Q (xInv D cx ro A s TL SL t0 s0 σ) (F0 m pc ls (va_rf r :: rest)) := by
  cases r with
  | none => cases hF
  | some q =>
    simp only [gxR] at hF
    split at hF
    · rename_i ht
      exact x_getV (ci := 0) (k := 0) X rfl rfl q313 (fun _ h => h) ht (show xV σ 0 q 0 = _ from rfl) d (kk _ hF)
    · cases hF
theorem xg_X0_16 {r : Option Nat} {kf : Option Nat → Option α} (X : XX p m c cc nL s args meth D cx ro A ret "TubBites") (hF : gxR σ 1 1 r kf = some res) (d : decode cc pc = .ok (.getfield 16, 3)) (kk : ∀ v, kf v = some res → GW p l e R s m args below meth c Q (xInv D cx ro A s TL SL t0 s0 σ) (F0 m (pc + 3) ls (va_rf v :: rest))) : GW p l e R s m args below meth c Q (xInv D cx ro A s TL SL t0 s0 σ) (F0 m pc ls (va_rf r :: rest)) := by
  cases r with
  | none => cases hF
  | some q =>
    simp only [gxR] at hF
    split at hF
    · rename_i ht
      exact x_getV (ci := 0) (k := 1) X rfl rfl q314 (fun _ h => h) ht (show xV σ 0 q 1 = _ from rfl) d (kk _ hF)
    · cases hF
theorem xg_X0_20 {r : Option Nat} {kf : Int32 → Option α} (X : XX p m c cc nL s args meth D cx ro A ret "TubBites") (hF : gxI σ 1 5 r kf = some res) (d : decode cc pc = .ok (.getfield 20, 3)) (kk : ∀ v, kf v = some res → GW p l e R s m args below meth c Q (xInv D cx ro A s TL SL t0 s0 σ) (F0 m (pc + 3) ls (.int v :: rest))) : GW p l e R s m args below meth c Q (xInv D cx ro A s TL SL t0 s0 σ) (F0 m pc ls (va_rf r :: rest)) := by
  cases r with
  | none => cases hF
  | some q =>
    simp only [gxI] at hF
    split at hF
    · rename_i ht
      exact x_getV (ci := 0) (k := 5) X rfl rfl q318 (fun _ h => h) ht (show xV σ 0 q 5 = _ from rfl) d (kk _ hF)
    · cases hF
theorem xg_X0_27 {r : Option Nat} {kf : Option Nat → Option α} (X : XX p m c cc nL s args meth D cx ro A ret "TubBites") (hF : gxR σ 1 6 r kf = some res) (d : decode cc pc = .ok (.getfield 27, 3)) (kk : ∀ v, kf v = some res → GW p l e R s m args below meth c Q (xInv D cx ro A s TL SL t0 s0 σ) (F0 m (pc + 3) ls (va_rf v :: rest))) : GW p l e R s m args below meth c Q (xInv D cx ro A s TL SL t0 s0 σ) (F0 m pc ls (va_rf r :: rest)) := by
  cases r with
  | none => cases hF
  | some q =>
    simp only [gxR] at hF
    split at hF
    · rename_i ht
      exact x_getV (ci := 0) (k := 6) X rfl rfl q319 (fun _ h => h) ht (show xV σ 0 q 6 = _ from rfl) d (kk _ hF)
    · cases hF
theorem xg_X0_31 {r : Option Nat} {kf : Option Nat → Option α} (X : XX p m c cc nL s args meth D cx ro A ret "TubBites") (hF : gxR σ 1 7 r kf = some res) (d : decode cc pc = .ok (.getfield 31, 3)) (kk : ∀ v, kf v = some res → GW p l e R s m args below meth c Q (xInv D cx ro A s TL SL t0 s0 σ) (F0 m (pc + 3) ls (va_rf v :: rest))) : GW p l e R s m args below meth c Q (xInv D cx ro A s TL SL t0 s0 σ) (F0 m pc ls (va_rf r :: rest)) := by
  cases r with
  | none => cases hF
  | some q =>
    simp only [gxR] at hF
    split at hF
    · rename_i ht
      exact x_getV (ci := 0) (k := 7) X rfl rfl q320 (fun _ h => h) ht (show xV σ 0 q 7 = _ from rfl) d (kk _ hF)
    · cases hF
theorem xg_X0_34 {r : Option Nat} {kf : Option Nat → Option α} (X : XX p m c cc nL s args meth D cx ro A ret "TubBites") (hF : gxR σ 1 10 r kf = some res) (d : decode cc pc = .ok (.getfield 34, 3)) (kk : ∀ v, kf v = some res → GW p l e R s m args below meth c Q (xInv D cx ro A s TL SL t0 s0 σ) (F0 m (pc + 3) ls (va_rf v :: rest))) : GW p l e R s m args below meth c Q (xInv D cx ro A s TL SL t0 s0 σ) (F0 m pc ls (va_rf r :: rest)) := by
  cases r with
  | none => cases hF
  | some q =>
    simp only [gxR] at hF
    split at hF
    · rename_i ht
      exact x_getV (ci := 0) (k := 10) X rfl rfl q323 (fun _ h => h) ht (show xV σ 0 q 10 = _ from rfl) d (kk _ hF)
    · cases hF
theorem xg_X0_38 {r : Option Nat} {kf : Option Nat → Option α} (X : XX p m c cc nL s args meth D cx ro A ret "TubBites") (hF : gxR σ 1 11 r kf = some res) (d : decode cc pc = .ok (.getfield 38, 3)) (kk : ∀ v, kf v = some res → GW p l e R s m args below meth c Q (xInv D cx ro A s TL SL t0 s0 σ) (F0 m (pc + 3) ls (va_rf v :: rest))) : GW p l e R s m args below meth c Q (xInv D cx ro A s TL SL t0 s0 σ) (F0 m pc ls (va_rf r :: rest)) := by
  cases r with
  | none => cases hF
  | some q =>
    simp only [gxR] at hF
    split at hF
    · rename_i ht
      exact x_getV (ci := 0) (k := 11) X rfl rfl q324 (fun _ h => h) ht (show xV σ 0 q 11 = _ from rfl) d (kk _ hF)
    · cases hF
theorem xg_X0_41 {r : Option Nat} {kf : Option Nat → Option α} (X : XX p m c cc nL s args meth D cx ro A ret "TubBites") (hF : gxR σ 1 13 r kf = some res) (d : decode cc pc = .ok (.getfield 41, 3)) (kk : ∀ v, kf v = some res → GW p l e R s m args below meth c Q (xInv D cx ro A s TL SL t0 s0 σ) (F0 m (pc + 3) ls (va_rf v :: rest))) : GW p l e R s m args below meth c Q (xInv D cx ro A s TL SL t0 s0 σ) (F0 m pc ls (va_rf r :: rest)) := by
  cases r with
  | none => cases hF
  | some q =>
    simp only [gxR] at hF
    split at hF
    · rename_i ht
      exact x_getV (ci := 0) (k := 13) X rfl rfl q326 (fun _ h => h) ht (show xV σ 0 q 13 = _ from rfl) d (kk _ hF)
    · cases hF
theorem xg_X0_44 {r : Option Nat} {kf : Option Nat → Option α} (X : XX p m c cc nL s args meth D cx ro A ret "TubBites") (hF : gxR σ 1 14 r kf = some res) (d : decode cc pc = .ok (.getfield 44, 3)) (kk : ∀ v, kf v = some res → GW p l e R s m args below meth c Q (xInv D cx ro A s TL SL t0 s0 σ) (F0 m (pc + 3) ls (va_rf v :: rest))) : GW p l e R s m args below meth c Q (xInv D cx ro A s TL SL t0 s0 σ) (F0 m pc ls (va_rf r :: rest)) := by
  cases r with
  | none => cases hF
  | some q =>
    simp only [gxR] at hF
    split at hF
    · rename_i ht
      exact x_getV (ci := 0) (k := 14) X rfl rfl q327 (fun _ h => h) ht (show xV σ 0 q 14 = _ from rfl) d (kk _ hF)
    · cases hF
theorem xg_X0_52 {r : Option Nat} {kf : Option Nat → Option α} (X : XX p m c cc nL s args meth D cx ro A ret "TubBites") (hF : gxR σ 1 15 r kf = some res) (d : decode cc pc = .ok (.getfield 52, 3)) (kk : ∀ v, kf v = some res → GW p l e R s m args below meth c Q (xInv D cx ro A s TL SL t0 s0 σ) (F0 m (pc + 3) ls (va_rf v :: rest))) : GW p l e R s m args below meth c Q (xInv D cx ro A s TL SL t0 s0 σ) (F0 m pc ls (va_rf r :: rest)) := by
  cases r with
  | none => cases hF
  | some q =>
    simp only [gxR] at hF
    split at hF
    · rename_i ht
      exact x_getV (ci := 0) (k := 15) X rfl rfl q328 (fun _ h => h) ht (show xV σ 0 q 15 = _ from rfl) d (kk _ hF)
    · cases hF
theorem xg_X0_62 {r : Option Nat} {kf : Int32 → Option α} (X : XX p m c cc nL s args meth D cx ro A ret "TubBites") (hF : gxI σ 1 12 r kf = some res) (d : decode cc pc = .ok (.getfield 62, 3)) (kk : ∀ v, kf v = some res → GW p l e R s m args below meth c Q (xInv D cx ro A s TL SL t0 s0 σ) (F0 m (pc + 3) ls (.int v :: rest))) : GW p l e R s m args below meth c Q (xInv D cx ro A s TL SL t0 s0 σ) (F0 m pc ls (va_rf r :: rest)) := by
  cases r with
  | none => cases hF
  | some q =>
    simp only [gxI] at hF
    split at hF
    · rename_i ht
      exact x_getV (ci := 0) (k := 12) X rfl rfl q325 (fun _ h => h) ht (show xV σ 0 q 12 = _ from rfl) d (kk _ hF)
    · cases hF
theorem xg_X0_65 {r : Option Nat} {kf : Option Nat → Option α} (X : XX p m c cc nL s args meth D cx ro A ret "TubBites") (hF : gxR σ 5 128 r kf = some res) (d : decode cc pc = .ok (.getfield 65, 3)) (kk : ∀ v, kf v = some res → GW p l e R s m args below meth c Q (xInv D cx ro A s TL SL t0 s0 σ) (F0 m (pc + 3) ls (va_rf v :: rest))) : GW p l e R s m args below meth c Q (xInv D cx ro A s TL SL t0 s0 σ) (F0 m pc ls (va_rf r :: rest)) := by
  cases r with
  | none => cases hF
  | some q =>
    simp only [gxR] at hF
    split at hF
    · rename_i ht
      exact x_getVN (ci := 4) (k := 0) X rfl rfl (List.mem_of_getElem? (i := 13) rfl) (fun _ h => h) ht (show xV σ 4 q 0 = _ from rfl) d (kk _ hF)
    · cases hF
theorem xg_X0_87 {r : Option Nat} {kf : Option Nat → Option α} (X : XX p m c cc nL s args meth D cx ro A ret "TubBites") (hF : gxR σ 2 43 r kf = some res) (d : decode cc pc = .ok (.getfield 87, 3)) (kk : ∀ v, kf v = some res → GW p l e R s m args below meth c Q (xInv D cx ro A s TL SL t0 s0 σ) (F0 m (pc + 3) ls (va_rf v :: rest))) : GW p l e R s m args below meth c Q (xInv D cx ro A s TL SL t0 s0 σ) (F0 m pc ls (va_rf r :: rest)) := by
  cases r with
  | none => cases hF
  | some q =>
    simp only [gxR] at hF
    split at hF
    · rename_i ht
      exact x_getVN (ci := 1) (k := 11) X rfl rfl (List.mem_of_getElem? (i := 11) rfl) (fun _ h => h) ht (show xV σ 1 q 11 = _ from rfl) d (kk _ hF)
    · cases hF
theorem xg_X0_94 {r : Option Nat} {kf : Option Nat → Option α} (X : XX p m c cc nL s args meth D cx ro A ret "TubBites") (hF : gxR σ 2 44 r kf = some res) (d : decode cc pc = .ok (.getfield 94, 3)) (kk : ∀ v, kf v = some res → GW p l e R s m args below meth c Q (xInv D cx ro A s TL SL t0 s0 σ) (F0 m (pc + 3) ls (va_rf v :: rest))) : GW p l e R s m args below meth c Q (xInv D cx ro A s TL SL t0 s0 σ) (F0 m pc ls (va_rf r :: rest)) := by
  cases r with
  | none => cases hF
  | some q =>
    simp only [gxR] at hF
    split at hF
    · rename_i ht
      exact x_getVN (ci := 1) (k := 12) X rfl rfl (List.mem_of_getElem? (i := 12) rfl) (fun _ h => h) ht (show xV σ 1 q 12 = _ from rfl) d (kk _ hF)
    · cases hF
theorem xg_X0_97 {r : Option Nat} {kf : Option Nat → Option α} (X : XX p m c cc nL s args meth D cx ro A ret "TubBites") (hF : gxR σ 2 42 r kf = some res) (d : decode cc pc = .ok (.getfield 97, 3)) (kk : ∀ v, kf v = some res → GW p l e R s m args below meth c Q (xInv D cx ro A s TL SL t0 s0 σ) (F0 m (pc + 3) ls (va_rf v :: rest))) : GW p l e R s m args below meth c Q (xInv D cx ro A s TL SL t0 s0 σ) (F0 m pc ls (va_rf r :: rest)) := by
  cases r with
  | none => cases hF
  | some q =>
    simp only [gxR] at hF
    split at hF
    · rename_i ht
      exact x_getVN (ci := 1) (k := 10) X rfl rfl (List.mem_of_getElem? (i := 10) rfl) (fun _ h => h) ht (show xV σ 1 q 10 = _ from rfl) d (kk _ hF)
    · cases hF
theorem xg_X0_109 {r : Option Nat} {kf : Int32 → Option α} (X : XX p m c cc nL s args meth D cx ro A ret "TubBites") (hF : gxI σ 14 422 r kf = some res) (d : decode cc pc = .ok (.getfield 109, 3)) (kk : ∀ v, kf v = some res → GW p l e R s m args below meth c Q (xInv D cx ro A s TL SL t0 s0 σ) (F0 m (pc + 3) ls (.int v :: rest))) : GW p l e R s m args below meth c Q (xInv D cx ro A s TL SL t0 s0 σ) (F0 m pc ls (va_rf r :: rest)) := by
  cases r with
  | none => cases hF
  | some q =>
    simp only [gxI] at hF
    split at hF
    · rename_i ht
      exact x_getVN (ci := 13) (k := 6) X rfl rfl (List.mem_of_getElem? (i := 25) rfl) (fun _ h => h) ht (show xV σ 13 q 6 = _ from rfl) d (kk _ hF)
    · cases hF
theorem xg_X0_114 {r : Option Nat} {kf : Int32 → Option α} (X : XX p m c cc nL s args meth D cx ro A ret "TubBites") (hF : gxI σ 1 2 r kf = some res) (d : decode cc pc = .ok (.getfield 114, 3)) (kk : ∀ v, kf v = some res → GW p l e R s m args below meth c Q (xInv D cx ro A s TL SL t0 s0 σ) (F0 m (pc + 3) ls (.int v :: rest))) : GW p l e R s m args below meth c Q (xInv D cx ro A s TL SL t0 s0 σ) (F0 m pc ls (va_rf r :: rest)) := by
  cases r with
  | none => cases hF
  | some q =>
    simp only [gxI] at hF
    split at hF
    · rename_i ht
      exact x_getV (ci := 0) (k := 2) X rfl rfl q315 (fun _ h => h) ht (show xV σ 0 q 2 = _ from rfl) d (kk _ hF)
    · cases hF
theorem xg_X0_121 {r : Option Nat} {kf : Int32 → Option α} (X : XX p m c cc nL s args meth D cx ro A ret "TubBites") (hF : gxI σ 1 4 r kf = some res) (d : decode cc pc = .ok (.getfield 121, 3)) (kk : ∀ v, kf v = some res → GW p l e R s m args below meth c Q (xInv D cx ro A s TL SL t0 s0 σ) (F0 m (pc + 3) ls (.int v :: rest))) : GW p l e R s m args below meth c Q (xInv D cx ro A s TL SL t0 s0 σ) (F0 m pc ls (va_rf r :: rest)) := by
  cases r with
  | none => cases hF
  | some q =>
    simp only [gxI] at hF
    split at hF
    · rename_i ht
      exact x_getV (ci := 0) (k := 4) X rfl rfl q317 (fun _ h => h) ht (show xV σ 0 q 4 = _ from rfl) d (kk _ hF)
    · cases hF
theorem xg_X0_147 {r : Option Nat} {kf : Int32 → Option α} (X : XX p m c cc nL s args meth D cx ro A ret "TubBites") (hF : gxI σ 13 391 r kf = some res) (d : decode cc pc = .ok (.getfield 147, 3)) (kk : ∀ v, kf v = some res → GW p l e R s m args below meth c Q (xInv D cx ro A s TL SL t0 s0 σ) (F0 m (pc + 3) ls (.int v :: rest))) : GW p l e R s m args below meth c Q (xInv D cx ro A s TL SL t0 s0 σ) (F0 m pc ls (va_rf r :: rest)) := by
  cases r with
  | none => cases hF
  | some q =>
    simp only [gxI] at hF
    split at hF
    · rename_i ht
      exact x_getVN (ci := 12) (k := 7) X rfl rfl (List.mem_of_getElem? (i := 17) rfl) (fun _ h => h) ht (show xV σ 12 q 7 = _ from rfl) d (kk _ hF)
    · cases hF
theorem xg_X0_150 {r : Option Nat} {kf : Int32 → Option α} (X : XX p m c cc nL s args meth D cx ro A ret "TubBites") (hF : gxI σ 13 392 r kf = some res) (d : decode cc pc = .ok (.getfield 150, 3)) (kk : ∀ v, kf v = some res → GW p l e R s m args below meth c Q (xInv D cx ro A s TL SL t0 s0 σ) (F0 m (pc + 3) ls (.int v :: rest))) : GW p l e R s m args below meth c Q (xInv D cx ro A s TL SL t0 s0 σ) (F0 m pc ls (va_rf r :: rest)) := by
  cases r with
  | none => cases hF
  | some q =>
    simp only [gxI] at hF
    split at hF
    · rename_i ht
      exact x_getVN (ci := 12) (k := 8) X rfl rfl (List.mem_of_getElem? (i := 18) rfl) (fun _ h => h) ht (show xV σ 12 q 8 = _ from rfl) d (kk _ hF)
    · cases hF
theorem xg_X0_153 {r : Option Nat} {kf : Int32 → Option α} (X : XX p m c cc nL s args meth D cx ro A ret "TubBites") (hF : gxI σ 13 393 r kf = some res) (d : decode cc pc = .ok (.getfield 153, 3)) (kk : ∀ v, kf v = some res → GW p l e R s m args below meth c Q (xInv D cx ro A s TL SL t0 s0 σ) (F0 m (pc + 3) ls (.int v :: rest))) : GW p l e R s m args below meth c Q (xInv D cx ro A s TL SL t0 s0 σ) (F0 m pc ls (va_rf r :: rest)) := by
  cases r with
  | none => cases hF
  | some q =>
    simp only [gxI] at hF
    split at hF
    · rename_i ht
      exact x_getVN (ci := 12) (k := 9) X rfl rfl (List.mem_of_getElem? (i := 19) rfl) (fun _ h => h) ht (show xV σ 12 q 9 = _ from rfl) d (kk _ hF)
    · cases hF
theorem xg_X0_156 {r : Option Nat} {kf : Int32 → Option α} (X : XX p m c cc nL s args meth D cx ro A ret "TubBites") (hF : gxI σ 13 394 r kf = some res) (d : decode cc pc = .ok (.getfield 156, 3)) (kk : ∀ v, kf v = some res → GW p l e R s m args below meth c Q (xInv D cx ro A s TL SL t0 s0 σ) (F0 m (pc + 3) ls (.int v :: rest))) : GW p l e R s m args below meth c Q (xInv D cx ro A s TL SL t0 s0 σ) (F0 m pc ls (va_rf r :: rest)) := by
  cases r with
  | none => cases hF
  | some q =>
    simp only [gxI] at hF
    split at hF
    · rename_i ht
      exact x_getVN (ci := 12) (k := 10) X rfl rfl (List.mem_of_getElem? (i := 20) rfl) (fun _ h => h) ht (show xV σ 12 q 10 = _ from rfl) d (kk _ hF)
    · cases hF
theorem xg_X0_159 {r : Option Nat} {kf : Int32 → Option α} (X : XX p m c cc nL s args meth D cx ro A ret "TubBites") (hF : gxI σ 13 395 r kf = some res) (d : decode cc pc = .ok (.getfield 159, 3)) (kk : ∀ v, kf v = some res → GW p l e R s m args below meth c Q (xInv D cx ro A s TL SL t0 s0 σ) (F0 m (pc + 3) ls (.int v :: rest))) : GW p l e R s m args below meth c Q (xInv D cx ro A s TL SL t0 s0 σ) (F0 m pc ls (va_rf r :: rest)) := by
  cases r with
  | none => cases hF
  | some q =>
    simp only [gxI] at hF
    split at hF
    · rename_i ht
      exact x_getVN (ci := 12) (k := 11) X rfl rfl (List.mem_of_getElem? (i := 21) rfl) (fun _ h => h) ht (show xV σ 12 q 11 = _ from rfl) d (kk _ hF)
    · cases hF
theorem xg_X0_164 {r : Option Nat} {kf : Int32 → Option α} (X : XX p m c cc nL s args meth D cx ro A ret "TubBites") (hF : gxI σ 14 423 r kf = some res) (d : decode cc pc = .ok (.getfield 164, 3)) (kk : ∀ v, kf v = some res → GW p l e R s m args below meth c Q (xInv D cx ro A s TL SL t0 s0 σ) (F0 m (pc + 3) ls (.int v :: rest))) : GW p l e R s m args below meth c Q (xInv D cx ro A s TL SL t0 s0 σ) (F0 m pc ls (va_rf r :: rest)) := by
  cases r with
  | none => cases hF
  | some q =>
    simp only [gxI] at hF
    split at hF
    · rename_i ht
      exact x_getVN (ci := 13) (k := 7) X rfl rfl (List.mem_of_getElem? (i := 26) rfl) (fun _ h => h) ht (show xV σ 13 q 7 = _ from rfl) d (kk _ hF)
    · cases hF
theorem xg_X0_167 {r : Option Nat} {kf : Int32 → Option α} (X : XX p m c cc nL s args meth D cx ro A ret "TubBites") (hF : gxI σ 14 424 r kf = some res) (d : decode cc pc = .ok (.getfield 167, 3)) (kk : ∀ v, kf v = some res → GW p l e R s m args below meth c Q (xInv D cx ro A s TL SL t0 s0 σ) (F0 m (pc + 3) ls (.int v :: rest))) : GW p l e R s m args below meth c Q (xInv D cx ro A s TL SL t0 s0 σ) (F0 m pc ls (va_rf r :: rest)) := by
  cases r with
  | none => cases hF
  | some q =>
    simp only [gxI] at hF
    split at hF
    · rename_i ht
      exact x_getVN (ci := 13) (k := 8) X rfl rfl (List.mem_of_getElem? (i := 27) rfl) (fun _ h => h) ht (show xV σ 13 q 8 = _ from rfl) d (kk _ hF)
    · cases hF
theorem xg_X0_170 {r : Option Nat} {kf : Int32 → Option α} (X : XX p m c cc nL s args meth D cx ro A ret "TubBites") (hF : gxI σ 14 425 r kf = some res) (d : decode cc pc = .ok (.getfield 170, 3)) (kk : ∀ v, kf v = some res → GW p l e R s m args below meth c Q (xInv D cx ro A s TL SL t0 s0 σ) (F0 m (pc + 3) ls (.int v :: rest))) : GW p l e R s m args below meth c Q (xInv D cx ro A s TL SL t0 s0 σ) (F0 m pc ls (va_rf r :: rest)) := by
  cases r with
  | none => cases hF
  | some q =>
    simp only [gxI] at hF
    split at hF
    · rename_i ht
      exact x_getVN (ci := 13) (k := 9) X rfl rfl (List.mem_of_getElem? (i := 28) rfl) (fun _ h => h) ht (show xV σ 13 q 9 = _ from rfl) d (kk _ hF)
    · cases hF
theorem xg_X0_214 {r : Option Nat} {kf : Int32 → Option α} (X : XX p m c cc nL s args meth D cx ro A ret "TubBites") (hF : gxI σ 1 8 r kf = some res) (d : decode cc pc = .ok (.getfield 214, 3)) (kk : ∀ v, kf v = some res → GW p l e R s m args below meth c Q (xInv D cx ro A s TL SL t0 s0 σ) (F0 m (pc + 3) ls (.int v :: rest))) : GW p l e R s m args below meth c Q (xInv D cx ro A s TL SL t0 s0 σ) (F0 m pc ls (va_rf r :: rest)) := by
  cases r with
  | none => cases hF
  | some q =>
    simp only [gxI] at hF
    split at hF
    · rename_i ht
      exact x_getV (ci := 0) (k := 8) X rfl rfl q321 (fun _ h => h) ht (show xV σ 0 q 8 = _ from rfl) d (kk _ hF)
    · cases hF
theorem xg_X0_246 {r : Option Nat} {kf : Int32 → Option α} (X : XX p m c cc nL s args meth D cx ro A ret "TubBites") (hF : gxI σ 1 9 r kf = some res) (d : decode cc pc = .ok (.getfield 246, 3)) (kk : ∀ v, kf v = some res → GW p l e R s m args below meth c Q (xInv D cx ro A s TL SL t0 s0 σ) (F0 m (pc + 3) ls (.int v :: rest))) : GW p l e R s m args below meth c Q (xInv D cx ro A s TL SL t0 s0 σ) (F0 m pc ls (va_rf r :: rest)) := by
  cases r with
  | none => cases hF
  | some q =>
    simp only [gxI] at hF
    split at hF
    · rename_i ht
      exact x_getV (ci := 0) (k := 9) X rfl rfl q322 (fun _ h => h) ht (show xV σ 0 q 9 = _ from rfl) d (kk _ hF)
    · cases hF
theorem xg_X0_249 {r : Option Nat} {kf : Int32 → Option α} (X : XX p m c cc nL s args meth D cx ro A ret "TubBites") (hF : gxI σ 14 420 r kf = some res) (d : decode cc pc = .ok (.getfield 249, 3)) (kk : ∀ v, kf v = some res → GW p l e R s m args below meth c Q (xInv D cx ro A s TL SL t0 s0 σ) (F0 m (pc + 3) ls (.int v :: rest))) : GW p l e R s m args below meth c Q (xInv D cx ro A s TL SL t0 s0 σ) (F0 m pc ls (va_rf r :: rest)) := by
  cases r with
  | none => cases hF
  | some q =>
    simp only [gxI] at hF
    split at hF
    · rename_i ht
      exact x_getVN (ci := 13) (k := 4) X rfl rfl (List.mem_of_getElem? (i := 24) rfl) (fun _ h => h) ht (show xV σ 13 q 4 = _ from rfl) d (kk _ hF)
    · cases hF
theorem xg_X0_268 {r : Option Nat} {kf : Option Nat → Option α} (X : XX p m c cc nL s args meth D cx ro A ret "TubBites") (hF : gxR σ 14 426 r kf = some res) (d : decode cc pc = .ok (.getfield 268, 3)) (kk : ∀ v, kf v = some res → GW p l e R s m args below meth c Q (xInv D cx ro A s TL SL t0 s0 σ) (F0 m (pc + 3) ls (va_rf v :: rest))) : GW p l e R s m args below meth c Q (xInv D cx ro A s TL SL t0 s0 σ) (F0 m pc ls (va_rf r :: rest)) := by
  cases r with
  | none => cases hF
  | some q =>
    simp only [gxR] at hF
    split at hF
    · rename_i ht
      exact x_getVN (ci := 13) (k := 10) X rfl rfl (List.mem_of_getElem? (i := 29) rfl) (fun _ h => h) ht (show xV σ 13 q 10 = _ from rfl) d (kk _ hF)
    · cases hF
theorem xg_X0_274 {r : Option Nat} {kf : Int32 → Option α} (X : XX p m c cc nL s args meth D cx ro A ret "TubBites") (hF : gxI σ 14 417 r kf = some res) (d : decode cc pc = .ok (.getfield 274, 3)) (kk : ∀ v, kf v = some res → GW p l e R s m args below meth c Q (xInv D cx ro A s TL SL t0 s0 σ) (F0 m (pc + 3) ls (.int v :: rest))) : GW p l e R s m args below meth c Q (xInv D cx ro A s TL SL t0 s0 σ) (F0 m pc ls (va_rf r :: rest)) := by
  cases r with
  | none => cases hF
  | some q =>
    simp only [gxI] at hF
    split at hF
    · rename_i ht
      exact x_getVN (ci := 13) (k := 1) X rfl rfl (List.mem_of_getElem? (i := 22) rfl) (fun _ h => h) ht (show xV σ 13 q 1 = _ from rfl) d (kk _ hF)
    · cases hF
theorem xg_X0_275 {r : Option Nat} {kf : Int32 → Option α} (X : XX p m c cc nL s args meth D cx ro A ret "TubBites") (hF : gxI σ 14 418 r kf = some res) (d : decode cc pc = .ok (.getfield 275, 3)) (kk : ∀ v, kf v = some res → GW p l e R s m args below meth c Q (xInv D cx ro A s TL SL t0 s0 σ) (F0 m (pc + 3) ls (.int v :: rest))) : GW p l e R s m args below meth c Q (xInv D cx ro A s TL SL t0 s0 σ) (F0 m pc ls (va_rf r :: rest)) := by
  cases r with
  | none => cases hF
  | some q =>
    simp only [gxI] at hF
    split at hF
    · rename_i ht
      exact x_getVN (ci := 13) (k := 2) X rfl rfl (List.mem_of_getElem? (i := 23) rfl) (fun _ h => h) ht (show xV σ 13 q 2 = _ from rfl) d (kk _ hF)
    · cases hF
theorem xg_X0_276 {r : Option Nat} {kf : Int32 → Option α} (X : XX p m c cc nL s args meth D cx ro A ret "TubBites") (hF : gxI σ 2 32 r kf = some res) (d : decode cc pc = .ok (.getfield 276, 3)) (kk : ∀ v, kf v = some res → GW p l e R s m args below meth c Q (xInv D cx ro A s TL SL t0 s0 σ) (F0 m (pc + 3) ls (.int v :: rest))) : GW p l e R s m args below meth c Q (xInv D cx ro A s TL SL t0 s0 σ) (F0 m pc ls (va_rf r :: rest)) := by
  cases r with
  | none => cases hF
  | some q =>
    simp only [gxI] at hF
    split at hF
    · rename_i ht
      exact x_getVN (ci := 1) (k := 0) X rfl rfl (List.mem_of_getElem? (i := 6) rfl) (fun _ h => h) ht (show xV σ 1 q 0 = _ from rfl) d (kk _ hF)
    · cases hF
theorem xg_X0_279 {r : Option Nat} {kf : Int32 → Option α} (X : XX p m c cc nL s args meth D cx ro A ret "TubBites") (hF : gxI σ 2 33 r kf = some res) (d : decode cc pc = .ok (.getfield 279, 3)) (kk : ∀ v, kf v = some res → GW p l e R s m args below meth c Q (xInv D cx ro A s TL SL t0 s0 σ) (F0 m (pc + 3) ls (.int v :: rest))) : GW p l e R s m args below meth c Q (xInv D cx ro A s TL SL t0 s0 σ) (F0 m pc ls (va_rf r :: rest)) := by
  cases r with
  | none => cases hF
  | some q =>
    simp only [gxI] at hF
    split at hF
    · rename_i ht
      exact x_getVN (ci := 1) (k := 1) X rfl rfl (List.mem_of_getElem? (i := 7) rfl) (fun _ h => h) ht (show xV σ 1 q 1 = _ from rfl) d (kk _ hF)
    · cases hF
theorem xg_X0_327 {r : Option Nat} {kf : Int32 → Option α} (X : XX p m c cc nL s args meth D cx ro A ret "TubBites") (hF : gxI σ 13 389 r kf = some res) (d : decode cc pc = .ok (.getfield 327, 3)) (kk : ∀ v, kf v = some res → GW p l e R s m args below meth c Q (xInv D cx ro A s TL SL t0 s0 σ) (F0 m (pc + 3) ls (.int v :: rest))) : GW p l e R s m args below meth c Q (xInv D cx ro A s TL SL t0 s0 σ) (F0 m pc ls (va_rf r :: rest)) := by
  cases r with
  | none => cases hF
  | some q =>
    simp only [gxI] at hF
    split at hF
    · rename_i ht
      exact x_getVN (ci := 12) (k := 5) X rfl rfl (List.mem_of_getElem? (i := 16) rfl) (fun _ h => h) ht (show xV σ 12 q 5 = _ from rfl) d (kk _ hF)
    · cases hF
theorem xg_X0_332 {r : Option Nat} {kf : Int32 → Option α} (X : XX p m c cc nL s args meth D cx ro A ret "TubBites") (hF : gxI σ 1 3 r kf = some res) (d : decode cc pc = .ok (.getfield 332, 3)) (kk : ∀ v, kf v = some res → GW p l e R s m args below meth c Q (xInv D cx ro A s TL SL t0 s0 σ) (F0 m (pc + 3) ls (.int v :: rest))) : GW p l e R s m args below meth c Q (xInv D cx ro A s TL SL t0 s0 σ) (F0 m pc ls (va_rf r :: rest)) := by
  cases r with
  | none => cases hF
  | some q =>
    simp only [gxI] at hF
    split at hF
    · rename_i ht
      exact x_getV (ci := 0) (k := 3) X rfl rfl q316 (fun _ h => h) ht (show xV σ 0 q 3 = _ from rfl) d (kk _ hF)
    · cases hF
theorem xg_X0_338 {r : Option Nat} {kf : Int32 → Option α} (X : XX p m c cc nL s args meth D cx ro A ret "TubBites") (hF : gxI σ 15 452 r kf = some res) (d : decode cc pc = .ok (.getfield 338, 3)) (kk : ∀ v, kf v = some res → GW p l e R s m args below meth c Q (xInv D cx ro A s TL SL t0 s0 σ) (F0 m (pc + 3) ls (.int v :: rest))) : GW p l e R s m args below meth c Q (xInv D cx ro A s TL SL t0 s0 σ) (F0 m pc ls (va_rf r :: rest)) := by
  cases r with
  | none => cases hF
  | some q =>
    simp only [gxI] at hF
    split at hF
    · rename_i ht
      exact x_getVN (ci := 14) (k := 4) X rfl rfl (List.mem_of_getElem? (i := 33) rfl) (fun _ h => h) ht (show xV σ 14 q 4 = _ from rfl) d (kk _ hF)
    · cases hF
theorem xg_X0_342 {r : Option Nat} {kf : Int32 → Option α} (X : XX p m c cc nL s args meth D cx ro A ret "TubBites") (hF : gxI σ 15 448 r kf = some res) (d : decode cc pc = .ok (.getfield 342, 3)) (kk : ∀ v, kf v = some res → GW p l e R s m args below meth c Q (xInv D cx ro A s TL SL t0 s0 σ) (F0 m (pc + 3) ls (.int v :: rest))) : GW p l e R s m args below meth c Q (xInv D cx ro A s TL SL t0 s0 σ) (F0 m pc ls (va_rf r :: rest)) := by
  cases r with
  | none => cases hF
  | some q =>
    simp only [gxI] at hF
    split at hF
    · rename_i ht
      exact x_getVN (ci := 14) (k := 0) X rfl rfl (List.mem_of_getElem? (i := 30) rfl) (fun _ h => h) ht (show xV σ 14 q 0 = _ from rfl) d (kk _ hF)
    · cases hF
theorem xg_X0_345 {r : Option Nat} {kf : Int32 → Option α} (X : XX p m c cc nL s args meth D cx ro A ret "TubBites") (hF : gxI σ 15 449 r kf = some res) (d : decode cc pc = .ok (.getfield 345, 3)) (kk : ∀ v, kf v = some res → GW p l e R s m args below meth c Q (xInv D cx ro A s TL SL t0 s0 σ) (F0 m (pc + 3) ls (.int v :: rest))) : GW p l e R s m args below meth c Q (xInv D cx ro A s TL SL t0 s0 σ) (F0 m pc ls (va_rf r :: rest)) := by
  cases r with
  | none => cases hF
  | some q =>
    simp only [gxI] at hF
    split at hF
    · rename_i ht
      exact x_getVN (ci := 14) (k := 1) X rfl rfl (List.mem_of_getElem? (i := 31) rfl) (fun _ h => h) ht (show xV σ 14 q 1 = _ from rfl) d (kk _ hF)
    · cases hF
theorem xg_X0_352 {r : Option Nat} {kf : Int32 → Option α} (X : XX p m c cc nL s args meth D cx ro A ret "TubBites") (hF : gxI σ 15 450 r kf = some res) (d : decode cc pc = .ok (.getfield 352, 3)) (kk : ∀ v, kf v = some res → GW p l e R s m args below meth c Q (xInv D cx ro A s TL SL t0 s0 σ) (F0 m (pc + 3) ls (.int v :: rest))) : GW p l e R s m args below meth c Q (xInv D cx ro A s TL SL t0 s0 σ) (F0 m pc ls (va_rf r :: rest)) := by
  cases r with
  | none => cases hF
  | some q =>
    simp only [gxI] at hF
    split at hF
    · rename_i ht
      exact x_getVN (ci := 14) (k := 2) X rfl rfl (List.mem_of_getElem? (i := 32) rfl) (fun _ h => h) ht (show xV σ 14 q 2 = _ from rfl) d (kk _ hF)
    · cases hF
theorem xg_X0_369 {r : Option Nat} {kf : Int32 → Option α} (X : XX p m c cc nL s args meth D cx ro A ret "TubBites") (hF : gxI σ 2 35 r kf = some res) (d : decode cc pc = .ok (.getfield 369, 3)) (kk : ∀ v, kf v = some res → GW p l e R s m args below meth c Q (xInv D cx ro A s TL SL t0 s0 σ) (F0 m (pc + 3) ls (.int v :: rest))) : GW p l e R s m args below meth c Q (xInv D cx ro A s TL SL t0 s0 σ) (F0 m pc ls (va_rf r :: rest)) := by
  cases r with
  | none => cases hF
  | some q =>
    simp only [gxI] at hF
    split at hF
    · rename_i ht
      exact x_getVN (ci := 1) (k := 3) X rfl rfl (List.mem_of_getElem? (i := 8) rfl) (fun _ h => h) ht (show xV σ 1 q 3 = _ from rfl) d (kk _ hF)
    · cases hF
theorem xg_X0_372 {r : Option Nat} {kf : Int32 → Option α} (X : XX p m c cc nL s args meth D cx ro A ret "TubBites") (hF : gxI σ 2 36 r kf = some res) (d : decode cc pc = .ok (.getfield 372, 3)) (kk : ∀ v, kf v = some res → GW p l e R s m args below meth c Q (xInv D cx ro A s TL SL t0 s0 σ) (F0 m (pc + 3) ls (.int v :: rest))) : GW p l e R s m args below meth c Q (xInv D cx ro A s TL SL t0 s0 σ) (F0 m pc ls (va_rf r :: rest)) := by
  cases r with
  | none => cases hF
  | some q =>
    simp only [gxI] at hF
    split at hF
    · rename_i ht
      exact x_getVN (ci := 1) (k := 4) X rfl rfl (List.mem_of_getElem? (i := 9) rfl) (fun _ h => h) ht (show xV σ 1 q 4 = _ from rfl) d (kk _ hF)
    · cases hF
theorem xg_X1_17 {r : Option Nat} {kf : Option Nat → Option α} (X : XX p m c cc nL s args meth D cx ro A ret "TubBites$Water") (hF : gxR σ 2 41 r kf = some res) (d : decode cc pc = .ok (.getfield 17, 3)) (kk : ∀ v, kf v = some res → GW p l e R s m args below meth c Q (xInv D cx ro A s TL SL t0 s0 σ) (F0 m (pc + 3) ls (va_rf v :: rest))) : GW p l e R s m args below meth c Q (xInv D cx ro A s TL SL t0 s0 σ) (F0 m pc ls (va_rf r :: rest)) := by
  cases r with
  | none => cases hF
  | some q =>
    simp only [gxR] at hF
    split at hF
    · rename_i ht
      exact x_getV (ci := 1) (k := 9) X rfl rfl q249 (fun _ h => h) ht (show xV σ 1 q 9 = _ from rfl) d (kk _ hF)
    · cases hF
theorem xg_X1_28 {r : Option Nat} {kf : Option Nat → Option α} (X : XX p m c cc nL s args meth D cx ro A ret "TubBites$Water") (hF : gxR σ 2 43 r kf = some res) (d : decode cc pc = .ok (.getfield 28, 3)) (kk : ∀ v, kf v = some res → GW p l e R s m args below meth c Q (xInv D cx ro A s TL SL t0 s0 σ) (F0 m (pc + 3) ls (va_rf v :: rest))) : GW p l e R s m args below meth c Q (xInv D cx ro A s TL SL t0 s0 σ) (F0 m pc ls (va_rf r :: rest)) := by
  cases r with
  | none => cases hF
  | some q =>
    simp only [gxR] at hF
    split at hF
    · rename_i ht
      exact x_getV (ci := 1) (k := 11) X rfl rfl q254 (fun _ h => h) ht (show xV σ 1 q 11 = _ from rfl) d (kk _ hF)
    · cases hF
theorem xg_X1_31 {r : Option Nat} {kf : Option Nat → Option α} (X : XX p m c cc nL s args meth D cx ro A ret "TubBites$Water") (hF : gxR σ 2 44 r kf = some res) (d : decode cc pc = .ok (.getfield 31, 3)) (kk : ∀ v, kf v = some res → GW p l e R s m args below meth c Q (xInv D cx ro A s TL SL t0 s0 σ) (F0 m (pc + 3) ls (va_rf v :: rest))) : GW p l e R s m args below meth c Q (xInv D cx ro A s TL SL t0 s0 σ) (F0 m pc ls (va_rf r :: rest)) := by
  cases r with
  | none => cases hF
  | some q =>
    simp only [gxR] at hF
    split at hF
    · rename_i ht
      exact x_getV (ci := 1) (k := 12) X rfl rfl q257 (fun _ h => h) ht (show xV σ 1 q 12 = _ from rfl) d (kk _ hF)
    · cases hF
theorem xg_X1_37 {r : Option Nat} {kf : Option Nat → Option α} (X : XX p m c cc nL s args meth D cx ro A ret "TubBites$Water") (hF : gxR σ 2 45 r kf = some res) (d : decode cc pc = .ok (.getfield 37, 3)) (kk : ∀ v, kf v = some res → GW p l e R s m args below meth c Q (xInv D cx ro A s TL SL t0 s0 σ) (F0 m (pc + 3) ls (va_rf v :: rest))) : GW p l e R s m args below meth c Q (xInv D cx ro A s TL SL t0 s0 σ) (F0 m pc ls (va_rf r :: rest)) := by
  cases r with
  | none => cases hF
  | some q =>
    simp only [gxR] at hF
    split at hF
    · rename_i ht
      exact x_getV (ci := 1) (k := 13) X rfl rfl q260 (fun _ h => h) ht (show xV σ 1 q 13 = _ from rfl) d (kk _ hF)
    · cases hF
theorem xg_X1_41 {r : Option Nat} {kf : Int32 → Option α} (X : XX p m c cc nL s args meth D cx ro A ret "TubBites$Water") (hF : gxI σ 2 32 r kf = some res) (d : decode cc pc = .ok (.getfield 41, 3)) (kk : ∀ v, kf v = some res → GW p l e R s m args below meth c Q (xInv D cx ro A s TL SL t0 s0 σ) (F0 m (pc + 3) ls (.int v :: rest))) : GW p l e R s m args below meth c Q (xInv D cx ro A s TL SL t0 s0 σ) (F0 m pc ls (va_rf r :: rest)) := by
  cases r with
  | none => cases hF
  | some q =>
    simp only [gxI] at hF
    split at hF
    · rename_i ht
      exact x_getV (ci := 1) (k := 0) X rfl rfl q231 (fun _ h => h) ht (show xV σ 1 q 0 = _ from rfl) d (kk _ hF)
    · cases hF
theorem xg_X1_48 {r : Option Nat} {kf : Int32 → Option α} (X : XX p m c cc nL s args meth D cx ro A ret "TubBites$Water") (hF : gxI σ 2 33 r kf = some res) (d : decode cc pc = .ok (.getfield 48, 3)) (kk : ∀ v, kf v = some res → GW p l e R s m args below meth c Q (xInv D cx ro A s TL SL t0 s0 σ) (F0 m (pc + 3) ls (.int v :: rest))) : GW p l e R s m args below meth c Q (xInv D cx ro A s TL SL t0 s0 σ) (F0 m pc ls (va_rf r :: rest)) := by
  cases r with
  | none => cases hF
  | some q =>
    simp only [gxI] at hF
    split at hF
    · rename_i ht
      exact x_getV (ci := 1) (k := 1) X rfl rfl q234 (fun _ h => h) ht (show xV σ 1 q 1 = _ from rfl) d (kk _ hF)
    · cases hF
theorem xg_X1_67 {r : Option Nat} {kf : Int32 → Option α} (X : XX p m c cc nL s args meth D cx ro A ret "TubBites$Water") (hF : gxI σ 2 34 r kf = some res) (d : decode cc pc = .ok (.getfield 67, 3)) (kk : ∀ v, kf v = some res → GW p l e R s m args below meth c Q (xInv D cx ro A s TL SL t0 s0 σ) (F0 m (pc + 3) ls (.int v :: rest))) : GW p l e R s m args below meth c Q (xInv D cx ro A s TL SL t0 s0 σ) (F0 m pc ls (va_rf r :: rest)) := by
  cases r with
  | none => cases hF
  | some q =>
    simp only [gxI] at hF
    split at hF
    · rename_i ht
      exact x_getV (ci := 1) (k := 2) X rfl rfl q237 (fun _ h => h) ht (show xV σ 1 q 2 = _ from rfl) d (kk _ hF)
    · cases hF
theorem xg_X1_70 {r : Option Nat} {kf : Int32 → Option α} (X : XX p m c cc nL s args meth D cx ro A ret "TubBites$Water") (hF : gxI σ 2 35 r kf = some res) (d : decode cc pc = .ok (.getfield 70, 3)) (kk : ∀ v, kf v = some res → GW p l e R s m args below meth c Q (xInv D cx ro A s TL SL t0 s0 σ) (F0 m (pc + 3) ls (.int v :: rest))) : GW p l e R s m args below meth c Q (xInv D cx ro A s TL SL t0 s0 σ) (F0 m pc ls (va_rf r :: rest)) := by
  cases r with
  | none => cases hF
  | some q =>
    simp only [gxI] at hF
    split at hF
    · rename_i ht
      exact x_getV (ci := 1) (k := 3) X rfl rfl q239 (fun _ h => h) ht (show xV σ 1 q 3 = _ from rfl) d (kk _ hF)
    · cases hF
theorem xg_X1_73 {r : Option Nat} {kf : Int32 → Option α} (X : XX p m c cc nL s args meth D cx ro A ret "TubBites$Water") (hF : gxI σ 13 393 r kf = some res) (d : decode cc pc = .ok (.getfield 73, 3)) (kk : ∀ v, kf v = some res → GW p l e R s m args below meth c Q (xInv D cx ro A s TL SL t0 s0 σ) (F0 m (pc + 3) ls (.int v :: rest))) : GW p l e R s m args below meth c Q (xInv D cx ro A s TL SL t0 s0 σ) (F0 m pc ls (va_rf r :: rest)) := by
  cases r with
  | none => cases hF
  | some q =>
    simp only [gxI] at hF
    split at hF
    · rename_i ht
      exact x_getVN (ci := 12) (k := 9) X rfl rfl (List.mem_of_getElem? (i := 41) rfl) (fun _ h => h) ht (show xV σ 12 q 9 = _ from rfl) d (kk _ hF)
    · cases hF
theorem xg_X1_76 {r : Option Nat} {kf : Int32 → Option α} (X : XX p m c cc nL s args meth D cx ro A ret "TubBites$Water") (hF : gxI σ 13 391 r kf = some res) (d : decode cc pc = .ok (.getfield 76, 3)) (kk : ∀ v, kf v = some res → GW p l e R s m args below meth c Q (xInv D cx ro A s TL SL t0 s0 σ) (F0 m (pc + 3) ls (.int v :: rest))) : GW p l e R s m args below meth c Q (xInv D cx ro A s TL SL t0 s0 σ) (F0 m pc ls (va_rf r :: rest)) := by
  cases r with
  | none => cases hF
  | some q =>
    simp only [gxI] at hF
    split at hF
    · rename_i ht
      exact x_getVN (ci := 12) (k := 7) X rfl rfl (List.mem_of_getElem? (i := 39) rfl) (fun _ h => h) ht (show xV σ 12 q 7 = _ from rfl) d (kk _ hF)
    · cases hF
theorem xg_X1_79 {r : Option Nat} {kf : Int32 → Option α} (X : XX p m c cc nL s args meth D cx ro A ret "TubBites$Water") (hF : gxI σ 13 392 r kf = some res) (d : decode cc pc = .ok (.getfield 79, 3)) (kk : ∀ v, kf v = some res → GW p l e R s m args below meth c Q (xInv D cx ro A s TL SL t0 s0 σ) (F0 m (pc + 3) ls (.int v :: rest))) : GW p l e R s m args below meth c Q (xInv D cx ro A s TL SL t0 s0 σ) (F0 m pc ls (va_rf r :: rest)) := by
  cases r with
  | none => cases hF
  | some q =>
    simp only [gxI] at hF
    split at hF
    · rename_i ht
      exact x_getVN (ci := 12) (k := 8) X rfl rfl (List.mem_of_getElem? (i := 40) rfl) (fun _ h => h) ht (show xV σ 12 q 8 = _ from rfl) d (kk _ hF)
    · cases hF
theorem xg_X1_94 {r : Option Nat} {kf : Int32 → Option α} (X : XX p m c cc nL s args meth D cx ro A ret "TubBites$Water") (hF : gxI σ 14 417 r kf = some res) (d : decode cc pc = .ok (.getfield 94, 3)) (kk : ∀ v, kf v = some res → GW p l e R s m args below meth c Q (xInv D cx ro A s TL SL t0 s0 σ) (F0 m (pc + 3) ls (.int v :: rest))) : GW p l e R s m args below meth c Q (xInv D cx ro A s TL SL t0 s0 σ) (F0 m pc ls (va_rf r :: rest)) := by
  cases r with
  | none => cases hF
  | some q =>
    simp only [gxI] at hF
    split at hF
    · rename_i ht
      exact x_getVN (ci := 13) (k := 1) X rfl rfl (List.mem_of_getElem? (i := 44) rfl) (fun _ h => h) ht (show xV σ 13 q 1 = _ from rfl) d (kk _ hF)
    · cases hF
theorem xg_X1_101 {r : Option Nat} {kf : Int32 → Option α} (X : XX p m c cc nL s args meth D cx ro A ret "TubBites$Water") (hF : gxI σ 14 418 r kf = some res) (d : decode cc pc = .ok (.getfield 101, 3)) (kk : ∀ v, kf v = some res → GW p l e R s m args below meth c Q (xInv D cx ro A s TL SL t0 s0 σ) (F0 m (pc + 3) ls (.int v :: rest))) : GW p l e R s m args below meth c Q (xInv D cx ro A s TL SL t0 s0 σ) (F0 m pc ls (va_rf r :: rest)) := by
  cases r with
  | none => cases hF
  | some q =>
    simp only [gxI] at hF
    split at hF
    · rename_i ht
      exact x_getVN (ci := 13) (k := 2) X rfl rfl (List.mem_of_getElem? (i := 45) rfl) (fun _ h => h) ht (show xV σ 13 q 2 = _ from rfl) d (kk _ hF)
    · cases hF
theorem xg_X1_118 {r : Option Nat} {kf : Option Nat → Option α} (X : XX p m c cc nL s args meth D cx ro A ret "TubBites$Water") (hF : gxR σ 4 96 r kf = some res) (d : decode cc pc = .ok (.getfield 118, 3)) (kk : ∀ v, kf v = some res → GW p l e R s m args below meth c Q (xInv D cx ro A s TL SL t0 s0 σ) (F0 m (pc + 3) ls (va_rf v :: rest))) : GW p l e R s m args below meth c Q (xInv D cx ro A s TL SL t0 s0 σ) (F0 m pc ls (va_rf r :: rest)) := by
  cases r with
  | none => cases hF
  | some q =>
    simp only [gxR] at hF
    split at hF
    · rename_i ht
      exact x_getVN (ci := 3) (k := 0) X rfl rfl (List.mem_of_getElem? (i := 35) rfl) (fun _ h => h) ht (show xV σ 3 q 0 = _ from rfl) d (kk _ hF)
    · cases hF
theorem xg_X1_122 {r : Option Nat} {kf : Int32 → Option α} (X : XX p m c cc nL s args meth D cx ro A ret "TubBites$Water") (hF : gxI σ 13 395 r kf = some res) (d : decode cc pc = .ok (.getfield 122, 3)) (kk : ∀ v, kf v = some res → GW p l e R s m args below meth c Q (xInv D cx ro A s TL SL t0 s0 σ) (F0 m (pc + 3) ls (.int v :: rest))) : GW p l e R s m args below meth c Q (xInv D cx ro A s TL SL t0 s0 σ) (F0 m pc ls (va_rf r :: rest)) := by
  cases r with
  | none => cases hF
  | some q =>
    simp only [gxI] at hF
    split at hF
    · rename_i ht
      exact x_getVN (ci := 12) (k := 11) X rfl rfl (List.mem_of_getElem? (i := 43) rfl) (fun _ h => h) ht (show xV σ 12 q 11 = _ from rfl) d (kk _ hF)
    · cases hF
theorem xg_X1_124 {r : Option Nat} {kf : Int32 → Option α} (X : XX p m c cc nL s args meth D cx ro A ret "TubBites$Water") (hF : gxI σ 13 388 r kf = some res) (d : decode cc pc = .ok (.getfield 124, 3)) (kk : ∀ v, kf v = some res → GW p l e R s m args below meth c Q (xInv D cx ro A s TL SL t0 s0 σ) (F0 m (pc + 3) ls (.int v :: rest))) : GW p l e R s m args below meth c Q (xInv D cx ro A s TL SL t0 s0 σ) (F0 m pc ls (va_rf r :: rest)) := by
  cases r with
  | none => cases hF
  | some q =>
    simp only [gxI] at hF
    split at hF
    · rename_i ht
      exact x_getVN (ci := 12) (k := 4) X rfl rfl (List.mem_of_getElem? (i := 37) rfl) (fun _ h => h) ht (show xV σ 12 q 4 = _ from rfl) d (kk _ hF)
    · cases hF
theorem xg_X1_127 {r : Option Nat} {kf : Int32 → Option α} (X : XX p m c cc nL s args meth D cx ro A ret "TubBites$Water") (hF : gxI σ 13 390 r kf = some res) (d : decode cc pc = .ok (.getfield 127, 3)) (kk : ∀ v, kf v = some res → GW p l e R s m args below meth c Q (xInv D cx ro A s TL SL t0 s0 σ) (F0 m (pc + 3) ls (.int v :: rest))) : GW p l e R s m args below meth c Q (xInv D cx ro A s TL SL t0 s0 σ) (F0 m pc ls (va_rf r :: rest)) := by
  cases r with
  | none => cases hF
  | some q =>
    simp only [gxI] at hF
    split at hF
    · rename_i ht
      exact x_getVN (ci := 12) (k := 6) X rfl rfl (List.mem_of_getElem? (i := 38) rfl) (fun _ h => h) ht (show xV σ 12 q 6 = _ from rfl) d (kk _ hF)
    · cases hF
theorem xg_X1_138 {r : Option Nat} {kf : Int32 → Option α} (X : XX p m c cc nL s args meth D cx ro A ret "TubBites$Water") (hF : gxI σ 13 394 r kf = some res) (d : decode cc pc = .ok (.getfield 138, 3)) (kk : ∀ v, kf v = some res → GW p l e R s m args below meth c Q (xInv D cx ro A s TL SL t0 s0 σ) (F0 m (pc + 3) ls (.int v :: rest))) : GW p l e R s m args below meth c Q (xInv D cx ro A s TL SL t0 s0 σ) (F0 m pc ls (va_rf r :: rest)) := by
  cases r with
  | none => cases hF
  | some q =>
    simp only [gxI] at hF
    split at hF
    · rename_i ht
      exact x_getVN (ci := 12) (k := 10) X rfl rfl (List.mem_of_getElem? (i := 42) rfl) (fun _ h => h) ht (show xV σ 12 q 10 = _ from rfl) d (kk _ hF)
    · cases hF
theorem xg_X1_141 {r : Option Nat} {kf : Int32 → Option α} (X : XX p m c cc nL s args meth D cx ro A ret "TubBites$Water") (hF : gxI σ 14 421 r kf = some res) (d : decode cc pc = .ok (.getfield 141, 3)) (kk : ∀ v, kf v = some res → GW p l e R s m args below meth c Q (xInv D cx ro A s TL SL t0 s0 σ) (F0 m (pc + 3) ls (.int v :: rest))) : GW p l e R s m args below meth c Q (xInv D cx ro A s TL SL t0 s0 σ) (F0 m pc ls (va_rf r :: rest)) := by
  cases r with
  | none => cases hF
  | some q =>
    simp only [gxI] at hF
    split at hF
    · rename_i ht
      exact x_getVN (ci := 13) (k := 5) X rfl rfl (List.mem_of_getElem? (i := 48) rfl) (fun _ h => h) ht (show xV σ 13 q 5 = _ from rfl) d (kk _ hF)
    · cases hF
theorem xg_X1_144 {r : Option Nat} {kf : Int32 → Option α} (X : XX p m c cc nL s args meth D cx ro A ret "TubBites$Water") (hF : gxI σ 14 423 r kf = some res) (d : decode cc pc = .ok (.getfield 144, 3)) (kk : ∀ v, kf v = some res → GW p l e R s m args below meth c Q (xInv D cx ro A s TL SL t0 s0 σ) (F0 m (pc + 3) ls (.int v :: rest))) : GW p l e R s m args below meth c Q (xInv D cx ro A s TL SL t0 s0 σ) (F0 m pc ls (va_rf r :: rest)) := by
  cases r with
  | none => cases hF
  | some q =>
    simp only [gxI] at hF
    split at hF
    · rename_i ht
      exact x_getVN (ci := 13) (k := 7) X rfl rfl (List.mem_of_getElem? (i := 49) rfl) (fun _ h => h) ht (show xV σ 13 q 7 = _ from rfl) d (kk _ hF)
    · cases hF
theorem xg_X1_162 {r : Option Nat} {kf : Int32 → Option α} (X : XX p m c cc nL s args meth D cx ro A ret "TubBites$Water") (hF : gxI σ 14 419 r kf = some res) (d : decode cc pc = .ok (.getfield 162, 3)) (kk : ∀ v, kf v = some res → GW p l e R s m args below meth c Q (xInv D cx ro A s TL SL t0 s0 σ) (F0 m (pc + 3) ls (.int v :: rest))) : GW p l e R s m args below meth c Q (xInv D cx ro A s TL SL t0 s0 σ) (F0 m pc ls (va_rf r :: rest)) := by
  cases r with
  | none => cases hF
  | some q =>
    simp only [gxI] at hF
    split at hF
    · rename_i ht
      exact x_getVN (ci := 13) (k := 3) X rfl rfl (List.mem_of_getElem? (i := 46) rfl) (fun _ h => h) ht (show xV σ 13 q 3 = _ from rfl) d (kk _ hF)
    · cases hF
theorem xg_X1_180 {r : Option Nat} {kf : Option Nat → Option α} (X : XX p m c cc nL s args meth D cx ro A ret "TubBites$Water") (hF : gxR σ 8 225 r kf = some res) (d : decode cc pc = .ok (.getfield 180, 3)) (kk : ∀ v, kf v = some res → GW p l e R s m args below meth c Q (xInv D cx ro A s TL SL t0 s0 σ) (F0 m (pc + 3) ls (va_rf v :: rest))) : GW p l e R s m args below meth c Q (xInv D cx ro A s TL SL t0 s0 σ) (F0 m pc ls (va_rf r :: rest)) := by
  cases r with
  | none => cases hF
  | some q =>
    simp only [gxR] at hF
    split at hF
    · rename_i ht
      exact x_getVN (ci := 7) (k := 1) X rfl rfl (List.mem_of_getElem? (i := 36) rfl) (fun _ h => h) ht (show xV σ 7 q 1 = _ from rfl) d (kk _ hF)
    · cases hF
theorem xg_X1_194 {r : Option Nat} {kf : Int32 → Option α} (X : XX p m c cc nL s args meth D cx ro A ret "TubBites$Water") (hF : gxI σ 14 425 r kf = some res) (d : decode cc pc = .ok (.getfield 194, 3)) (kk : ∀ v, kf v = some res → GW p l e R s m args below meth c Q (xInv D cx ro A s TL SL t0 s0 σ) (F0 m (pc + 3) ls (.int v :: rest))) : GW p l e R s m args below meth c Q (xInv D cx ro A s TL SL t0 s0 σ) (F0 m pc ls (va_rf r :: rest)) := by
  cases r with
  | none => cases hF
  | some q =>
    simp only [gxI] at hF
    split at hF
    · rename_i ht
      exact x_getVN (ci := 13) (k := 9) X rfl rfl (List.mem_of_getElem? (i := 51) rfl) (fun _ h => h) ht (show xV σ 13 q 9 = _ from rfl) d (kk _ hF)
    · cases hF
theorem xg_X1_203 {r : Option Nat} {kf : Option Nat → Option α} (X : XX p m c cc nL s args meth D cx ro A ret "TubBites$Water") (hF : gxR σ 14 426 r kf = some res) (d : decode cc pc = .ok (.getfield 203, 3)) (kk : ∀ v, kf v = some res → GW p l e R s m args below meth c Q (xInv D cx ro A s TL SL t0 s0 σ) (F0 m (pc + 3) ls (va_rf v :: rest))) : GW p l e R s m args below meth c Q (xInv D cx ro A s TL SL t0 s0 σ) (F0 m pc ls (va_rf r :: rest)) := by
  cases r with
  | none => cases hF
  | some q =>
    simp only [gxR] at hF
    split at hF
    · rename_i ht
      exact x_getVN (ci := 13) (k := 10) X rfl rfl (List.mem_of_getElem? (i := 52) rfl) (fun _ h => h) ht (show xV σ 13 q 10 = _ from rfl) d (kk _ hF)
    · cases hF
theorem xg_X1_206 {r : Option Nat} {kf : Int32 → Option α} (X : XX p m c cc nL s args meth D cx ro A ret "TubBites$Water") (hF : gxI σ 14 424 r kf = some res) (d : decode cc pc = .ok (.getfield 206, 3)) (kk : ∀ v, kf v = some res → GW p l e R s m args below meth c Q (xInv D cx ro A s TL SL t0 s0 σ) (F0 m (pc + 3) ls (.int v :: rest))) : GW p l e R s m args below meth c Q (xInv D cx ro A s TL SL t0 s0 σ) (F0 m pc ls (va_rf r :: rest)) := by
  cases r with
  | none => cases hF
  | some q =>
    simp only [gxI] at hF
    split at hF
    · rename_i ht
      exact x_getVN (ci := 13) (k := 8) X rfl rfl (List.mem_of_getElem? (i := 50) rfl) (fun _ h => h) ht (show xV σ 13 q 8 = _ from rfl) d (kk _ hF)
    · cases hF
theorem xg_X1_212 {r : Option Nat} {kf : Int32 → Option α} (X : XX p m c cc nL s args meth D cx ro A ret "TubBites$Water") (hF : gxI σ 14 420 r kf = some res) (d : decode cc pc = .ok (.getfield 212, 3)) (kk : ∀ v, kf v = some res → GW p l e R s m args below meth c Q (xInv D cx ro A s TL SL t0 s0 σ) (F0 m (pc + 3) ls (.int v :: rest))) : GW p l e R s m args below meth c Q (xInv D cx ro A s TL SL t0 s0 σ) (F0 m pc ls (va_rf r :: rest)) := by
  cases r with
  | none => cases hF
  | some q =>
    simp only [gxI] at hF
    split at hF
    · rename_i ht
      exact x_getVN (ci := 13) (k := 4) X rfl rfl (List.mem_of_getElem? (i := 47) rfl) (fun _ h => h) ht (show xV σ 13 q 4 = _ from rfl) d (kk _ hF)
    · cases hF
theorem xg_X10_7 {r : Option Nat} {kf : Int32 → Option α} (X : XX p m c cc nL s args meth D cx ro A ret "TubBites$Numeral") (hF : gxI σ 10 288 r kf = some res) (d : decode cc pc = .ok (.getfield 7, 3)) (kk : ∀ v, kf v = some res → GW p l e R s m args below meth c Q (xInv D cx ro A s TL SL t0 s0 σ) (F0 m (pc + 3) ls (.int v :: rest))) : GW p l e R s m args below meth c Q (xInv D cx ro A s TL SL t0 s0 σ) (F0 m pc ls (va_rf r :: rest)) := by
  cases r with
  | none => cases hF
  | some q =>
    simp only [gxI] at hF
    split at hF
    · rename_i ht
      exact x_getV (ci := 9) (k := 0) X rfl rfl q701 (fun _ h => h) ht (show xV σ 9 q 0 = _ from rfl) d (kk _ hF)
    · cases hF
theorem xg_X11_7 {r : Option Nat} {kf : Int32 → Option α} (X : XX p m c cc nL s args meth D cx ro A ret "TubBites$Named") (hF : gxI σ 11 320 r kf = some res) (d : decode cc pc = .ok (.getfield 7, 3)) (kk : ∀ v, kf v = some res → GW p l e R s m args below meth c Q (xInv D cx ro A s TL SL t0 s0 σ) (F0 m (pc + 3) ls (.int v :: rest))) : GW p l e R s m args below meth c Q (xInv D cx ro A s TL SL t0 s0 σ) (F0 m pc ls (va_rf r :: rest)) := by
  cases r with
  | none => cases hF
  | some q =>
    simp only [gxI] at hF
    split at hF
    · rename_i ht
      exact x_getV (ci := 10) (k := 0) X rfl rfl q711 (fun _ h => h) ht (show xV σ 10 q 0 = _ from rfl) d (kk _ hF)
    · cases hF
theorem xg_X11_13 {r : Option Nat} {kf : Option Nat → Option α} (X : XX p m c cc nL s args meth D cx ro A ret "TubBites$Named") (hF : gxR σ 4 96 r kf = some res) (d : decode cc pc = .ok (.getfield 13, 3)) (kk : ∀ v, kf v = some res → GW p l e R s m args below meth c Q (xInv D cx ro A s TL SL t0 s0 σ) (F0 m (pc + 3) ls (va_rf v :: rest))) : GW p l e R s m args below meth c Q (xInv D cx ro A s TL SL t0 s0 σ) (F0 m pc ls (va_rf r :: rest)) := by
  cases r with
  | none => cases hF
  | some q =>
    simp only [gxR] at hF
    split at hF
    · rename_i ht
      exact x_getVN (ci := 3) (k := 0) X rfl rfl (List.mem_of_getElem? (i := 56) rfl) (fun _ h => h) ht (show xV σ 3 q 0 = _ from rfl) d (kk _ hF)
    · cases hF
theorem xg_X12_7 {r : Option Nat} {kf : Int32 → Option α} (X : XX p m c cc nL s args meth D cx ro A ret "TubBites$Two") (hF : gxI σ 12 352 r kf = some res) (d : decode cc pc = .ok (.getfield 7, 3)) (kk : ∀ v, kf v = some res → GW p l e R s m args below meth c Q (xInv D cx ro A s TL SL t0 s0 σ) (F0 m (pc + 3) ls (.int v :: rest))) : GW p l e R s m args below meth c Q (xInv D cx ro A s TL SL t0 s0 σ) (F0 m pc ls (va_rf r :: rest)) := by
  cases r with
  | none => cases hF
  | some q =>
    simp only [gxI] at hF
    split at hF
    · rename_i ht
      exact x_getV (ci := 11) (k := 0) X rfl rfl q721 (fun _ h => h) ht (show xV σ 11 q 0 = _ from rfl) d (kk _ hF)
    · cases hF
theorem xg_X12_13 {r : Option Nat} {kf : Option Nat → Option α} (X : XX p m c cc nL s args meth D cx ro A ret "TubBites$Two") (hF : gxR σ 12 353 r kf = some res) (d : decode cc pc = .ok (.getfield 13, 3)) (kk : ∀ v, kf v = some res → GW p l e R s m args below meth c Q (xInv D cx ro A s TL SL t0 s0 σ) (F0 m (pc + 3) ls (va_rf v :: rest))) : GW p l e R s m args below meth c Q (xInv D cx ro A s TL SL t0 s0 σ) (F0 m pc ls (va_rf r :: rest)) := by
  cases r with
  | none => cases hF
  | some q =>
    simp only [gxR] at hF
    split at hF
    · rename_i ht
      exact x_getV (ci := 11) (k := 1) X rfl rfl q722 (fun _ h => h) ht (show xV σ 11 q 1 = _ from rfl) d (kk _ hF)
    · cases hF
theorem xg_X12_17 {r : Option Nat} {kf : Option Nat → Option α} (X : XX p m c cc nL s args meth D cx ro A ret "TubBites$Two") (hF : gxR σ 12 354 r kf = some res) (d : decode cc pc = .ok (.getfield 17, 3)) (kk : ∀ v, kf v = some res → GW p l e R s m args below meth c Q (xInv D cx ro A s TL SL t0 s0 σ) (F0 m (pc + 3) ls (va_rf v :: rest))) : GW p l e R s m args below meth c Q (xInv D cx ro A s TL SL t0 s0 σ) (F0 m pc ls (va_rf r :: rest)) := by
  cases r with
  | none => cases hF
  | some q =>
    simp only [gxR] at hF
    split at hF
    · rename_i ht
      exact x_getV (ci := 11) (k := 2) X rfl rfl q723 (fun _ h => h) ht (show xV σ 11 q 2 = _ from rfl) d (kk _ hF)
    · cases hF
theorem xg_X13_22 {r : Option Nat} {kf : Int32 → Option α} (X : XX p m c cc nL s args meth D cx ro A ret "TubBites$Apple") (hF : gxI σ 13 385 r kf = some res) (d : decode cc pc = .ok (.getfield 22, 3)) (kk : ∀ v, kf v = some res → GW p l e R s m args below meth c Q (xInv D cx ro A s TL SL t0 s0 σ) (F0 m (pc + 3) ls (.int v :: rest))) : GW p l e R s m args below meth c Q (xInv D cx ro A s TL SL t0 s0 σ) (F0 m pc ls (va_rf r :: rest)) := by
  cases r with
  | none => cases hF
  | some q =>
    simp only [gxI] at hF
    split at hF
    · rename_i ht
      exact x_getV (ci := 12) (k := 1) X rfl rfl q830 (fun _ h => h) ht (show xV σ 12 q 1 = _ from rfl) d (kk _ hF)
    · cases hF
theorem xg_X13_28 {r : Option Nat} {kf : Int32 → Option α} (X : XX p m c cc nL s args meth D cx ro A ret "TubBites$Apple") (hF : gxI σ 13 386 r kf = some res) (d : decode cc pc = .ok (.getfield 28, 3)) (kk : ∀ v, kf v = some res → GW p l e R s m args below meth c Q (xInv D cx ro A s TL SL t0 s0 σ) (F0 m (pc + 3) ls (.int v :: rest))) : GW p l e R s m args below meth c Q (xInv D cx ro A s TL SL t0 s0 σ) (F0 m pc ls (va_rf r :: rest)) := by
  cases r with
  | none => cases hF
  | some q =>
    simp only [gxI] at hF
    split at hF
    · rename_i ht
      exact x_getV (ci := 12) (k := 2) X rfl rfl q832 (fun _ h => h) ht (show xV σ 12 q 2 = _ from rfl) d (kk _ hF)
    · cases hF
theorem xg_X13_37 {r : Option Nat} {kf : Int32 → Option α} (X : XX p m c cc nL s args meth D cx ro A ret "TubBites$Apple") (hF : gxI σ 13 387 r kf = some res) (d : decode cc pc = .ok (.getfield 37, 3)) (kk : ∀ v, kf v = some res → GW p l e R s m args below meth c Q (xInv D cx ro A s TL SL t0 s0 σ) (F0 m (pc + 3) ls (.int v :: rest))) : GW p l e R s m args below meth c Q (xInv D cx ro A s TL SL t0 s0 σ) (F0 m pc ls (va_rf r :: rest)) := by
  cases r with
  | none => cases hF
  | some q =>
    simp only [gxI] at hF
    split at hF
    · rename_i ht
      exact x_getV (ci := 12) (k := 3) X rfl rfl q834 (fun _ h => h) ht (show xV σ 12 q 3 = _ from rfl) d (kk _ hF)
    · cases hF
theorem xg_X14_9 {r : Option Nat} {kf : Option Nat → Option α} (X : XX p m c cc nL s args meth D cx ro A ret "TubBites$Bobber") (hF : gxR σ 14 426 r kf = some res) (d : decode cc pc = .ok (.getfield 9, 3)) (kk : ∀ v, kf v = some res → GW p l e R s m args below meth c Q (xInv D cx ro A s TL SL t0 s0 σ) (F0 m (pc + 3) ls (va_rf v :: rest))) : GW p l e R s m args below meth c Q (xInv D cx ro A s TL SL t0 s0 σ) (F0 m pc ls (va_rf r :: rest)) := by
  cases r with
  | none => cases hF
  | some q =>
    simp only [gxR] at hF
    split at hF
    · rename_i ht
      exact x_getV (ci := 13) (k := 10) X rfl rfl q943 (fun _ h => h) ht (show xV σ 13 q 10 = _ from rfl) d (kk _ hF)
    · cases hF
theorem xg_X14_19 {r : Option Nat} {kf : Int32 → Option α} (X : XX p m c cc nL s args meth D cx ro A ret "TubBites$Bobber") (hF : gxI σ 14 420 r kf = some res) (d : decode cc pc = .ok (.getfield 19, 3)) (kk : ∀ v, kf v = some res → GW p l e R s m args below meth c Q (xInv D cx ro A s TL SL t0 s0 σ) (F0 m (pc + 3) ls (.int v :: rest))) : GW p l e R s m args below meth c Q (xInv D cx ro A s TL SL t0 s0 σ) (F0 m pc ls (va_rf r :: rest)) := by
  cases r with
  | none => cases hF
  | some q =>
    simp only [gxI] at hF
    split at hF
    · rename_i ht
      exact x_getV (ci := 13) (k := 4) X rfl rfl q925 (fun _ h => h) ht (show xV σ 13 q 4 = _ from rfl) d (kk _ hF)
    · cases hF
theorem xg_X14_32 {r : Option Nat} {kf : Int32 → Option α} (X : XX p m c cc nL s args meth D cx ro A ret "TubBites$Bobber") (hF : gxI σ 13 391 r kf = some res) (d : decode cc pc = .ok (.getfield 32, 3)) (kk : ∀ v, kf v = some res → GW p l e R s m args below meth c Q (xInv D cx ro A s TL SL t0 s0 σ) (F0 m (pc + 3) ls (.int v :: rest))) : GW p l e R s m args below meth c Q (xInv D cx ro A s TL SL t0 s0 σ) (F0 m pc ls (va_rf r :: rest)) := by
  cases r with
  | none => cases hF
  | some q =>
    simp only [gxI] at hF
    split at hF
    · rename_i ht
      exact x_getVN (ci := 12) (k := 7) X rfl rfl (List.mem_of_getElem? (i := 59) rfl) (fun _ h => h) ht (show xV σ 12 q 7 = _ from rfl) d (kk _ hF)
    · cases hF
theorem xg_X14_37 {r : Option Nat} {kf : Int32 → Option α} (X : XX p m c cc nL s args meth D cx ro A ret "TubBites$Bobber") (hF : gxI σ 14 417 r kf = some res) (d : decode cc pc = .ok (.getfield 37, 3)) (kk : ∀ v, kf v = some res → GW p l e R s m args below meth c Q (xInv D cx ro A s TL SL t0 s0 σ) (F0 m (pc + 3) ls (.int v :: rest))) : GW p l e R s m args below meth c Q (xInv D cx ro A s TL SL t0 s0 σ) (F0 m pc ls (va_rf r :: rest)) := by
  cases r with
  | none => cases hF
  | some q =>
    simp only [gxI] at hF
    split at hF
    · rename_i ht
      exact x_getV (ci := 13) (k := 1) X rfl rfl q915 (fun _ h => h) ht (show xV σ 13 q 1 = _ from rfl) d (kk _ hF)
    · cases hF
theorem xg_X14_44 {r : Option Nat} {kf : Int32 → Option α} (X : XX p m c cc nL s args meth D cx ro A ret "TubBites$Bobber") (hF : gxI σ 13 392 r kf = some res) (d : decode cc pc = .ok (.getfield 44, 3)) (kk : ∀ v, kf v = some res → GW p l e R s m args below meth c Q (xInv D cx ro A s TL SL t0 s0 σ) (F0 m (pc + 3) ls (.int v :: rest))) : GW p l e R s m args below meth c Q (xInv D cx ro A s TL SL t0 s0 σ) (F0 m pc ls (va_rf r :: rest)) := by
  cases r with
  | none => cases hF
  | some q =>
    simp only [gxI] at hF
    split at hF
    · rename_i ht
      exact x_getVN (ci := 12) (k := 8) X rfl rfl (List.mem_of_getElem? (i := 60) rfl) (fun _ h => h) ht (show xV σ 12 q 8 = _ from rfl) d (kk _ hF)
    · cases hF
theorem xg_X14_47 {r : Option Nat} {kf : Int32 → Option α} (X : XX p m c cc nL s args meth D cx ro A ret "TubBites$Bobber") (hF : gxI σ 14 418 r kf = some res) (d : decode cc pc = .ok (.getfield 47, 3)) (kk : ∀ v, kf v = some res → GW p l e R s m args below meth c Q (xInv D cx ro A s TL SL t0 s0 σ) (F0 m (pc + 3) ls (.int v :: rest))) : GW p l e R s m args below meth c Q (xInv D cx ro A s TL SL t0 s0 σ) (F0 m pc ls (va_rf r :: rest)) := by
  cases r with
  | none => cases hF
  | some q =>
    simp only [gxI] at hF
    split at hF
    · rename_i ht
      exact x_getV (ci := 13) (k := 2) X rfl rfl q919 (fun _ h => h) ht (show xV σ 13 q 2 = _ from rfl) d (kk _ hF)
    · cases hF
theorem xg_X15_9 {r : Option Nat} {kf : Int32 → Option α} (X : XX p m c cc nL s args meth D cx ro A ret "TubBites$Pick") (hF : gxI σ 15 452 r kf = some res) (d : decode cc pc = .ok (.getfield 9, 3)) (kk : ∀ v, kf v = some res → GW p l e R s m args below meth c Q (xInv D cx ro A s TL SL t0 s0 σ) (F0 m (pc + 3) ls (.int v :: rest))) : GW p l e R s m args below meth c Q (xInv D cx ro A s TL SL t0 s0 σ) (F0 m pc ls (va_rf r :: rest)) := by
  cases r with
  | none => cases hF
  | some q =>
    simp only [gxI] at hF
    split at hF
    · rename_i ht
      exact x_getV (ci := 14) (k := 4) X rfl rfl q1439 (fun _ h => h) ht (show xV σ 14 q 4 = _ from rfl) d (kk _ hF)
    · cases hF
theorem xg_X15_24 {r : Option Nat} {kf : Int32 → Option α} (X : XX p m c cc nL s args meth D cx ro A ret "TubBites$Pick") (hF : gxI σ 15 451 r kf = some res) (d : decode cc pc = .ok (.getfield 24, 3)) (kk : ∀ v, kf v = some res → GW p l e R s m args below meth c Q (xInv D cx ro A s TL SL t0 s0 σ) (F0 m (pc + 3) ls (.int v :: rest))) : GW p l e R s m args below meth c Q (xInv D cx ro A s TL SL t0 s0 σ) (F0 m pc ls (va_rf r :: rest)) := by
  cases r with
  | none => cases hF
  | some q =>
    simp only [gxI] at hF
    split at hF
    · rename_i ht
      exact x_getV (ci := 14) (k := 3) X rfl rfl q1438 (fun _ h => h) ht (show xV σ 14 q 3 = _ from rfl) d (kk _ hF)
    · cases hF
theorem xg_X16_9 {r : Option Nat} {kf : Int32 → Option α} (X : XX p m c cc nL s args meth D cx ro A ret "TubBites$Free") (hF : gxI σ 13 388 r kf = some res) (d : decode cc pc = .ok (.getfield 9, 3)) (kk : ∀ v, kf v = some res → GW p l e R s m args below meth c Q (xInv D cx ro A s TL SL t0 s0 σ) (F0 m (pc + 3) ls (.int v :: rest))) : GW p l e R s m args below meth c Q (xInv D cx ro A s TL SL t0 s0 σ) (F0 m pc ls (va_rf r :: rest)) := by
  cases r with
  | none => cases hF
  | some q =>
    simp only [gxI] at hF
    split at hF
    · rename_i ht
      exact x_getVN (ci := 12) (k := 4) X rfl rfl (List.mem_of_getElem? (i := 62) rfl) (fun _ h => h) ht (show xV σ 12 q 4 = _ from rfl) d (kk _ hF)
    · cases hF
theorem xg_X16_15 {r : Option Nat} {kf : Int32 → Option α} (X : XX p m c cc nL s args meth D cx ro A ret "TubBites$Free") (hF : gxI σ 2 37 r kf = some res) (d : decode cc pc = .ok (.getfield 15, 3)) (kk : ∀ v, kf v = some res → GW p l e R s m args below meth c Q (xInv D cx ro A s TL SL t0 s0 σ) (F0 m (pc + 3) ls (.int v :: rest))) : GW p l e R s m args below meth c Q (xInv D cx ro A s TL SL t0 s0 σ) (F0 m pc ls (va_rf r :: rest)) := by
  cases r with
  | none => cases hF
  | some q =>
    simp only [gxI] at hF
    split at hF
    · rename_i ht
      exact x_getVN (ci := 1) (k := 5) X rfl rfl (List.mem_of_getElem? (i := 61) rfl) (fun _ h => h) ht (show xV σ 1 q 5 = _ from rfl) d (kk _ hF)
    · cases hF
theorem xg_X16_20 {r : Option Nat} {kf : Int32 → Option α} (X : XX p m c cc nL s args meth D cx ro A ret "TubBites$Free") (hF : gxI σ 13 395 r kf = some res) (d : decode cc pc = .ok (.getfield 20, 3)) (kk : ∀ v, kf v = some res → GW p l e R s m args below meth c Q (xInv D cx ro A s TL SL t0 s0 σ) (F0 m (pc + 3) ls (.int v :: rest))) : GW p l e R s m args below meth c Q (xInv D cx ro A s TL SL t0 s0 σ) (F0 m pc ls (va_rf r :: rest)) := by
  cases r with
  | none => cases hF
  | some q =>
    simp only [gxI] at hF
    split at hF
    · rename_i ht
      exact x_getVN (ci := 12) (k := 11) X rfl rfl (List.mem_of_getElem? (i := 64) rfl) (fun _ h => h) ht (show xV σ 12 q 11 = _ from rfl) d (kk _ hF)
    · cases hF
theorem xg_X16_23 {r : Option Nat} {kf : Int32 → Option α} (X : XX p m c cc nL s args meth D cx ro A ret "TubBites$Free") (hF : gxI σ 14 421 r kf = some res) (d : decode cc pc = .ok (.getfield 23, 3)) (kk : ∀ v, kf v = some res → GW p l e R s m args below meth c Q (xInv D cx ro A s TL SL t0 s0 σ) (F0 m (pc + 3) ls (.int v :: rest))) : GW p l e R s m args below meth c Q (xInv D cx ro A s TL SL t0 s0 σ) (F0 m pc ls (va_rf r :: rest)) := by
  cases r with
  | none => cases hF
  | some q =>
    simp only [gxI] at hF
    split at hF
    · rename_i ht
      exact x_getVN (ci := 13) (k := 5) X rfl rfl (List.mem_of_getElem? (i := 65) rfl) (fun _ h => h) ht (show xV σ 13 q 5 = _ from rfl) d (kk _ hF)
    · cases hF
theorem xg_X16_34 {r : Option Nat} {kf : Int32 → Option α} (X : XX p m c cc nL s args meth D cx ro A ret "TubBites$Free") (hF : gxI σ 13 393 r kf = some res) (d : decode cc pc = .ok (.getfield 34, 3)) (kk : ∀ v, kf v = some res → GW p l e R s m args below meth c Q (xInv D cx ro A s TL SL t0 s0 σ) (F0 m (pc + 3) ls (.int v :: rest))) : GW p l e R s m args below meth c Q (xInv D cx ro A s TL SL t0 s0 σ) (F0 m pc ls (va_rf r :: rest)) := by
  cases r with
  | none => cases hF
  | some q =>
    simp only [gxI] at hF
    split at hF
    · rename_i ht
      exact x_getVN (ci := 12) (k := 9) X rfl rfl (List.mem_of_getElem? (i := 63) rfl) (fun _ h => h) ht (show xV σ 12 q 9 = _ from rfl) d (kk _ hF)
    · cases hF
theorem xg_X18_16 {r : Option Nat} {kf : Int32 → Option α} (X : XX p m c cc nL s args meth D cx ro A ret "TubBites$Leaned") (hF : gxI σ 13 391 r kf = some res) (d : decode cc pc = .ok (.getfield 16, 3)) (kk : ∀ v, kf v = some res → GW p l e R s m args below meth c Q (xInv D cx ro A s TL SL t0 s0 σ) (F0 m (pc + 3) ls (.int v :: rest))) : GW p l e R s m args below meth c Q (xInv D cx ro A s TL SL t0 s0 σ) (F0 m pc ls (va_rf r :: rest)) := by
  cases r with
  | none => cases hF
  | some q =>
    simp only [gxI] at hF
    split at hF
    · rename_i ht
      exact x_getVN (ci := 12) (k := 7) X rfl rfl (List.mem_of_getElem? (i := 66) rfl) (fun _ h => h) ht (show xV σ 12 q 7 = _ from rfl) d (kk _ hF)
    · cases hF
theorem xg_X18_22 {r : Option Nat} {kf : Int32 → Option α} (X : XX p m c cc nL s args meth D cx ro A ret "TubBites$Leaned") (hF : gxI σ 13 392 r kf = some res) (d : decode cc pc = .ok (.getfield 22, 3)) (kk : ∀ v, kf v = some res → GW p l e R s m args below meth c Q (xInv D cx ro A s TL SL t0 s0 σ) (F0 m (pc + 3) ls (.int v :: rest))) : GW p l e R s m args below meth c Q (xInv D cx ro A s TL SL t0 s0 σ) (F0 m pc ls (va_rf r :: rest)) := by
  cases r with
  | none => cases hF
  | some q =>
    simp only [gxI] at hF
    split at hF
    · rename_i ht
      exact x_getVN (ci := 12) (k := 8) X rfl rfl (List.mem_of_getElem? (i := 67) rfl) (fun _ h => h) ht (show xV σ 12 q 8 = _ from rfl) d (kk _ hF)
    · cases hF
theorem xg_X19_7 {r : Option Nat} {kf : Int32 → Option α} (X : XX p m c cc nL s args meth D cx ro A ret "TubBites$Stalked") (hF : gxI σ 13 390 r kf = some res) (d : decode cc pc = .ok (.getfield 7, 3)) (kk : ∀ v, kf v = some res → GW p l e R s m args below meth c Q (xInv D cx ro A s TL SL t0 s0 σ) (F0 m (pc + 3) ls (.int v :: rest))) : GW p l e R s m args below meth c Q (xInv D cx ro A s TL SL t0 s0 σ) (F0 m pc ls (va_rf r :: rest)) := by
  cases r with
  | none => cases hF
  | some q =>
    simp only [gxI] at hF
    split at hF
    · rename_i ht
      exact x_getVN (ci := 12) (k := 6) X rfl rfl (List.mem_of_getElem? (i := 68) rfl) (fun _ h => h) ht (show xV σ 12 q 6 = _ from rfl) d (kk _ hF)
    · cases hF
theorem xg_X20_7 {r : Option Nat} {kf : Int32 → Option α} (X : XX p m c cc nL s args meth D cx ro A ret "TubBites$Walled") (hF : gxI σ 13 391 r kf = some res) (d : decode cc pc = .ok (.getfield 7, 3)) (kk : ∀ v, kf v = some res → GW p l e R s m args below meth c Q (xInv D cx ro A s TL SL t0 s0 σ) (F0 m (pc + 3) ls (.int v :: rest))) : GW p l e R s m args below meth c Q (xInv D cx ro A s TL SL t0 s0 σ) (F0 m pc ls (va_rf r :: rest)) := by
  cases r with
  | none => cases hF
  | some q =>
    simp only [gxI] at hF
    split at hF
    · rename_i ht
      exact x_getVN (ci := 12) (k := 7) X rfl rfl (List.mem_of_getElem? (i := 69) rfl) (fun _ h => h) ht (show xV σ 12 q 7 = _ from rfl) d (kk _ hF)
    · cases hF
theorem xg_X20_13 {r : Option Nat} {kf : Int32 → Option α} (X : XX p m c cc nL s args meth D cx ro A ret "TubBites$Walled") (hF : gxI σ 13 392 r kf = some res) (d : decode cc pc = .ok (.getfield 13, 3)) (kk : ∀ v, kf v = some res → GW p l e R s m args below meth c Q (xInv D cx ro A s TL SL t0 s0 σ) (F0 m (pc + 3) ls (.int v :: rest))) : GW p l e R s m args below meth c Q (xInv D cx ro A s TL SL t0 s0 σ) (F0 m pc ls (va_rf r :: rest)) := by
  cases r with
  | none => cases hF
  | some q =>
    simp only [gxI] at hF
    split at hF
    · rename_i ht
      exact x_getVN (ci := 12) (k := 8) X rfl rfl (List.mem_of_getElem? (i := 70) rfl) (fun _ h => h) ht (show xV σ 12 q 8 = _ from rfl) d (kk _ hF)
    · cases hF
theorem xg_X21_7 {r : Option Nat} {kf : Int32 → Option α} (X : XX p m c cc nL s args meth D cx ro A ret "TubBites$Try") (hF : gxI σ 13 394 r kf = some res) (d : decode cc pc = .ok (.getfield 7, 3)) (kk : ∀ v, kf v = some res → GW p l e R s m args below meth c Q (xInv D cx ro A s TL SL t0 s0 σ) (F0 m (pc + 3) ls (.int v :: rest))) : GW p l e R s m args below meth c Q (xInv D cx ro A s TL SL t0 s0 σ) (F0 m pc ls (va_rf r :: rest)) := by
  cases r with
  | none => cases hF
  | some q =>
    simp only [gxI] at hF
    split at hF
    · rename_i ht
      exact x_getVN (ci := 12) (k := 10) X rfl rfl (List.mem_of_getElem? (i := 71) rfl) (fun _ h => h) ht (show xV σ 12 q 10 = _ from rfl) d (kk _ hF)
    · cases hF
theorem xg_X9_7 {r : Option Nat} {kf : Option Nat → Option α} (X : XX p m c cc nL s args meth D cx ro A ret "TubBites$Not") (hF : gxR σ 9 256 r kf = some res) (d : decode cc pc = .ok (.getfield 7, 3)) (kk : ∀ v, kf v = some res → GW p l e R s m args below meth c Q (xInv D cx ro A s TL SL t0 s0 σ) (F0 m (pc + 3) ls (va_rf v :: rest))) : GW p l e R s m args below meth c Q (xInv D cx ro A s TL SL t0 s0 σ) (F0 m pc ls (va_rf r :: rest)) := by
  cases r with
  | none => cases hF
  | some q =>
    simp only [gxR] at hF
    split at hF
    · rename_i ht
      exact x_getV (ci := 8) (k := 0) X rfl rfl q673 (fun _ h => h) ht (show xV σ 8 q 0 = _ from rfl) d (kk _ hF)
    · cases hF
theorem xp_J1_7 {r : Option Nat} {v : Int32} {kf : XS → Option α} (X : XX p m c cc nL s args meth D cx ro A ret "java/util/AbstractList") (hF : sxI σ 3 64 r v kf = some res) (ha : agW n w σ0 σ) (hw : w.1.contains 64 = true) (d : decode cc pc = .ok (.putfield 7, 3)) (kk : ∀ σ1, kf σ1 = some res → agW n w σ0 σ1 → GW p l e R s m args below meth c Q (xInv D cx ro A s TL SL t0 s0 σ1) (F0 m (pc + 3) ls (rest))) : GW p l e R s m args below meth c Q (xInv D cx ro A s TL SL t0 s0 σ) (F0 m pc ls (.int v :: va_rf r :: rest)) := by
  cases r with
  | none => cases hF
  | some q =>
    simp only [sxI] at hF
    split at hF
    · rename_i ht
      have hV := xV_pI (σ := σ) (ci := 2) (k := 0) (q := q) (v := v) 64 rfl rfl
      exact x_putV (ci := 2) (k := 0) (ty := .int) (τ := pI σ 64 q v) X rfl rfl q208 (fun _ h => h) rfl rfl rfl rfl ht rfl rfl rfl hV.1 hV.2 d (kk _ hF (ha.pI hw))
    · cases hF
theorem xp_J2_9 {r : Option Nat} {v : Option Nat} {kf : XS → Option α} (X : XX p m c cc nL s args meth D cx ro A ret "java/util/ArrayList") (hF : sxR σ 3 65 r v kf = some res) (ha : agW n w σ0 σ) (hw : w.2.1.contains 65 = true) (d : decode cc pc = .ok (.putfield 9, 3)) (kk : ∀ σ1, kf σ1 = some res → agW n w σ0 σ1 → GW p l e R s m args below meth c Q (xInv D cx ro A s TL SL t0 s0 σ1) (F0 m (pc + 3) ls (rest))) : GW p l e R s m args below meth c Q (xInv D cx ro A s TL SL t0 s0 σ) (F0 m pc ls (va_rf v :: va_rf r :: rest)) := by
  cases r with
  | none => cases hF
  | some q =>
    simp only [sxR] at hF
    split at hF
    · rename_i ht
      have hV := xV_pR (σ := σ) (ci := 2) (k := 1) (q := q) (v := v) 65 rfl rfl
      exact x_putV (ci := 2) (k := 1) (ty := (.array (.object "java/lang/Object"))) (τ := pR σ 65 q v) X rfl rfl q206 (fun _ h => h) rfl rfl (by cases v <;> rfl) (by cases v <;> rfl) ht rfl rfl rfl hV.1 hV.2 d (kk _ hF (ha.pR hw))
    · cases hF
theorem xp_J2_48 {r : Option Nat} {v : Int32} {kf : XS → Option α} (X : XX p m c cc nL s args meth D cx ro A ret "java/util/ArrayList") (hF : sxI σ 3 66 r v kf = some res) (ha : agW n w σ0 σ) (hw : w.1.contains 66 = true) (d : decode cc pc = .ok (.putfield 48, 3)) (kk : ∀ σ1, kf σ1 = some res → agW n w σ0 σ1 → GW p l e R s m args below meth c Q (xInv D cx ro A s TL SL t0 s0 σ1) (F0 m (pc + 3) ls (rest))) : GW p l e R s m args below meth c Q (xInv D cx ro A s TL SL t0 s0 σ) (F0 m pc ls (.int v :: va_rf r :: rest)) := by
  cases r with
  | none => cases hF
  | some q =>
    simp only [sxI] at hF
    split at hF
    · rename_i ht
      have hV := xV_pI (σ := σ) (ci := 2) (k := 2) (q := q) (v := v) 66 rfl rfl
      exact x_putV (ci := 2) (k := 2) (ty := .int) (τ := pI σ 66 q v) X rfl rfl q207 (fun _ h => h) rfl rfl rfl rfl ht rfl rfl rfl hV.1 hV.2 d (kk _ hF (ha.pI hw))
    · cases hF
theorem xp_J2_63 {r : Option Nat} {v : Int32} {kf : XS → Option α} (X : XX p m c cc nL s args meth D cx ro A ret "java/util/ArrayList") (hF : sxI σ 3 64 r v kf = some res) (ha : agW n w σ0 σ) (hw : w.1.contains 64 = true) (d : decode cc pc = .ok (.putfield 63, 3)) (kk : ∀ σ1, kf σ1 = some res → agW n w σ0 σ1 → GW p l e R s m args below meth c Q (xInv D cx ro A s TL SL t0 s0 σ1) (F0 m (pc + 3) ls (rest))) : GW p l e R s m args below meth c Q (xInv D cx ro A s TL SL t0 s0 σ) (F0 m pc ls (.int v :: va_rf r :: rest)) := by
  cases r with
  | none => cases hF
  | some q =>
    simp only [sxI] at hF
    split at hF
    · rename_i ht
      have hV := xV_pI (σ := σ) (ci := 2) (k := 0) (q := q) (v := v) 64 rfl rfl
      exact x_putV (ci := 2) (k := 0) (ty := .int) (τ := pI σ 64 q v) X rfl rfl q209 (fun x hx => u_same (X.gx.hts _ q210) x hx) rfl rfl rfl rfl ht rfl rfl rfl hV.1 hV.2 d (kk _ hF (ha.pI hw))
    · cases hF
theorem xp_X0_12 {r : Option Nat} {v : Option Nat} {kf : XS → Option α} (X : XX p m c cc nL s args meth D cx ro A ret "TubBites") (hF : sxR σ 1 0 r v kf = some res) (ha : agW n w σ0 σ) (hw : w.2.1.contains 0 = true) (d : decode cc pc = .ok (.putfield 12, 3)) (kk : ∀ σ1, kf σ1 = some res → agW n w σ0 σ1 → GW p l e R s m args below meth c Q (xInv D cx ro A s TL SL t0 s0 σ1) (F0 m (pc + 3) ls (rest))) : GW p l e R s m args below meth c Q (xInv D cx ro A s TL SL t0 s0 σ) (F0 m pc ls (va_rf v :: va_rf r :: rest)) := by
  cases r with
  | none => cases hF
  | some q =>
    simp only [sxR] at hF
    split at hF
    · rename_i ht
      have hV := xV_pR (σ := σ) (ci := 0) (k := 0) (q := q) (v := v) 0 rfl rfl
      exact x_putV (ci := 0) (k := 0) (ty := (.object "TubBites$Water")) (τ := pR σ 0 q v) X rfl rfl q313 (fun _ h => h) rfl rfl (by cases v <;> rfl) (by cases v <;> rfl) ht rfl rfl rfl hV.1 hV.2 d (kk _ hF (ha.pR hw))
    · cases hF
theorem xp_X0_16 {r : Option Nat} {v : Option Nat} {kf : XS → Option α} (X : XX p m c cc nL s args meth D cx ro A ret "TubBites") (hF : sxR σ 1 1 r v kf = some res) (hnm : meth.name = "<init>") (ha : agW n w σ0 σ) (hw : w.2.1.contains 1 = true) (d : decode cc pc = .ok (.putfield 16, 3)) (kk : ∀ σ1, kf σ1 = some res → agW n w σ0 σ1 → GW p l e R s m args below meth c Q (xInv D cx ro A s TL SL t0 s0 σ1) (F0 m (pc + 3) ls (rest))) : GW p l e R s m args below meth c Q (xInv D cx ro A s TL SL t0 s0 σ) (F0 m pc ls (va_rf v :: va_rf r :: rest)) := by
  cases r with
  | none => cases hF
  | some q =>
    simp only [sxR] at hF
    split at hF
    · rename_i ht
      have hV := xV_pR (σ := σ) (ci := 0) (k := 1) (q := q) (v := v) 1 rfl rfl
      exact x_putVF (ci := 0) (k := 1) (ty := (.array .byte)) (τ := pR σ 1 q v) X hnm rfl rfl q314 (fun _ h => h) rfl rfl rfl (by cases v <;> rfl) (by cases v <;> rfl) ht rfl rfl rfl hV.1 hV.2 d (kk _ hF (ha.pR hw))
    · cases hF
theorem xp_X0_20 {r : Option Nat} {v : Int32} {kf : XS → Option α} (X : XX p m c cc nL s args meth D cx ro A ret "TubBites") (hF : sxI σ 1 5 r v kf = some res) (ha : agW n w σ0 σ) (hw : w.1.contains 5 = true) (d : decode cc pc = .ok (.putfield 20, 3)) (kk : ∀ σ1, kf σ1 = some res → agW n w σ0 σ1 → GW p l e R s m args below meth c Q (xInv D cx ro A s TL SL t0 s0 σ1) (F0 m (pc + 3) ls (rest))) : GW p l e R s m args below meth c Q (xInv D cx ro A s TL SL t0 s0 σ) (F0 m pc ls (.int v :: va_rf r :: rest)) := by
  cases r with
  | none => cases hF
  | some q =>
    simp only [sxI] at hF
    split at hF
    · rename_i ht
      have hV := xV_pI (σ := σ) (ci := 0) (k := 5) (q := q) (v := v) 5 rfl rfl
      exact x_putV (ci := 0) (k := 5) (ty := .int) (τ := pI σ 5 q v) X rfl rfl q318 (fun _ h => h) rfl rfl rfl rfl ht rfl rfl rfl hV.1 hV.2 d (kk _ hF (ha.pI hw))
    · cases hF
theorem xp_X0_27 {r : Option Nat} {v : Option Nat} {kf : XS → Option α} (X : XX p m c cc nL s args meth D cx ro A ret "TubBites") (hF : sxR σ 1 6 r v kf = some res) (hnm : meth.name = "<init>") (ha : agW n w σ0 σ) (hw : w.2.1.contains 6 = true) (d : decode cc pc = .ok (.putfield 27, 3)) (kk : ∀ σ1, kf σ1 = some res → agW n w σ0 σ1 → GW p l e R s m args below meth c Q (xInv D cx ro A s TL SL t0 s0 σ1) (F0 m (pc + 3) ls (rest))) : GW p l e R s m args below meth c Q (xInv D cx ro A s TL SL t0 s0 σ) (F0 m pc ls (va_rf v :: va_rf r :: rest)) := by
  cases r with
  | none => cases hF
  | some q =>
    simp only [sxR] at hF
    split at hF
    · rename_i ht
      have hV := xV_pR (σ := σ) (ci := 0) (k := 6) (q := q) (v := v) 6 rfl rfl
      exact x_putVF (ci := 0) (k := 6) (ty := (.object "java/util/ArrayList")) (τ := pR σ 6 q v) X hnm rfl rfl q319 (fun _ h => h) rfl rfl rfl (by cases v <;> rfl) (by cases v <;> rfl) ht rfl rfl rfl hV.1 hV.2 d (kk _ hF (ha.pR hw))
    · cases hF
theorem xp_X0_31 {r : Option Nat} {v : Option Nat} {kf : XS → Option α} (X : XX p m c cc nL s args meth D cx ro A ret "TubBites") (hF : sxR σ 1 7 r v kf = some res) (hnm : meth.name = "<init>") (ha : agW n w σ0 σ) (hw : w.2.1.contains 7 = true) (d : decode cc pc = .ok (.putfield 31, 3)) (kk : ∀ σ1, kf σ1 = some res → agW n w σ0 σ1 → GW p l e R s m args below meth c Q (xInv D cx ro A s TL SL t0 s0 σ1) (F0 m (pc + 3) ls (rest))) : GW p l e R s m args below meth c Q (xInv D cx ro A s TL SL t0 s0 σ) (F0 m pc ls (va_rf v :: va_rf r :: rest)) := by
  cases r with
  | none => cases hF
  | some q =>
    simp only [sxR] at hF
    split at hF
    · rename_i ht
      have hV := xV_pR (σ := σ) (ci := 0) (k := 7) (q := q) (v := v) 7 rfl rfl
      exact x_putVF (ci := 0) (k := 7) (ty := (.object "java/util/ArrayList")) (τ := pR σ 7 q v) X hnm rfl rfl q320 (fun _ h => h) rfl rfl rfl (by cases v <;> rfl) (by cases v <;> rfl) ht rfl rfl rfl hV.1 hV.2 d (kk _ hF (ha.pR hw))
    · cases hF
theorem xp_X0_34 {r : Option Nat} {v : Option Nat} {kf : XS → Option α} (X : XX p m c cc nL s args meth D cx ro A ret "TubBites") (hF : sxR σ 1 10 r v kf = some res) (hnm : meth.name = "<init>") (ha : agW n w σ0 σ) (hw : w.2.1.contains 10 = true) (d : decode cc pc = .ok (.putfield 34, 3)) (kk : ∀ σ1, kf σ1 = some res → agW n w σ0 σ1 → GW p l e R s m args below meth c Q (xInv D cx ro A s TL SL t0 s0 σ1) (F0 m (pc + 3) ls (rest))) : GW p l e R s m args below meth c Q (xInv D cx ro A s TL SL t0 s0 σ) (F0 m pc ls (va_rf v :: va_rf r :: rest)) := by
  cases r with
  | none => cases hF
  | some q =>
    simp only [sxR] at hF
    split at hF
    · rename_i ht
      have hV := xV_pR (σ := σ) (ci := 0) (k := 10) (q := q) (v := v) 10 rfl rfl
      exact x_putVF (ci := 0) (k := 10) (ty := (.array .int)) (τ := pR σ 10 q v) X hnm rfl rfl q323 (fun _ h => h) rfl rfl rfl (by cases v <;> rfl) (by cases v <;> rfl) ht rfl rfl rfl hV.1 hV.2 d (kk _ hF (ha.pR hw))
    · cases hF
theorem xp_X0_38 {r : Option Nat} {v : Option Nat} {kf : XS → Option α} (X : XX p m c cc nL s args meth D cx ro A ret "TubBites") (hF : sxR σ 1 11 r v kf = some res) (hnm : meth.name = "<init>") (ha : agW n w σ0 σ) (hw : w.2.1.contains 11 = true) (d : decode cc pc = .ok (.putfield 38, 3)) (kk : ∀ σ1, kf σ1 = some res → agW n w σ0 σ1 → GW p l e R s m args below meth c Q (xInv D cx ro A s TL SL t0 s0 σ1) (F0 m (pc + 3) ls (rest))) : GW p l e R s m args below meth c Q (xInv D cx ro A s TL SL t0 s0 σ) (F0 m pc ls (va_rf v :: va_rf r :: rest)) := by
  cases r with
  | none => cases hF
  | some q =>
    simp only [sxR] at hF
    split at hF
    · rename_i ht
      have hV := xV_pR (σ := σ) (ci := 0) (k := 11) (q := q) (v := v) 11 rfl rfl
      exact x_putVF (ci := 0) (k := 11) (ty := (.array .int)) (τ := pR σ 11 q v) X hnm rfl rfl q324 (fun _ h => h) rfl rfl rfl (by cases v <;> rfl) (by cases v <;> rfl) ht rfl rfl rfl hV.1 hV.2 d (kk _ hF (ha.pR hw))
    · cases hF
theorem xp_X0_41 {r : Option Nat} {v : Option Nat} {kf : XS → Option α} (X : XX p m c cc nL s args meth D cx ro A ret "TubBites") (hF : sxR σ 1 13 r v kf = some res) (hnm : meth.name = "<init>") (ha : agW n w σ0 σ) (hw : w.2.1.contains 13 = true) (d : decode cc pc = .ok (.putfield 41, 3)) (kk : ∀ σ1, kf σ1 = some res → agW n w σ0 σ1 → GW p l e R s m args below meth c Q (xInv D cx ro A s TL SL t0 s0 σ1) (F0 m (pc + 3) ls (rest))) : GW p l e R s m args below meth c Q (xInv D cx ro A s TL SL t0 s0 σ) (F0 m pc ls (va_rf v :: va_rf r :: rest)) := by
  cases r with
  | none => cases hF
  | some q =>
    simp only [sxR] at hF
    split at hF
    · rename_i ht
      have hV := xV_pR (σ := σ) (ci := 0) (k := 13) (q := q) (v := v) 13 rfl rfl
      exact x_putVF (ci := 0) (k := 13) (ty := (.array .int)) (τ := pR σ 13 q v) X hnm rfl rfl q326 (fun _ h => h) rfl rfl rfl (by cases v <;> rfl) (by cases v <;> rfl) ht rfl rfl rfl hV.1 hV.2 d (kk _ hF (ha.pR hw))
    · cases hF
theorem xp_X0_44 {r : Option Nat} {v : Option Nat} {kf : XS → Option α} (X : XX p m c cc nL s args meth D cx ro A ret "TubBites") (hF : sxR σ 1 14 r v kf = some res) (hnm : meth.name = "<init>") (ha : agW n w σ0 σ) (hw : w.2.1.contains 14 = true) (d : decode cc pc = .ok (.putfield 44, 3)) (kk : ∀ σ1, kf σ1 = some res → agW n w σ0 σ1 → GW p l e R s m args below meth c Q (xInv D cx ro A s TL SL t0 s0 σ1) (F0 m (pc + 3) ls (rest))) : GW p l e R s m args below meth c Q (xInv D cx ro A s TL SL t0 s0 σ) (F0 m pc ls (va_rf v :: va_rf r :: rest)) := by
  cases r with
  | none => cases hF
  | some q =>
    simp only [sxR] at hF
    split at hF
    · rename_i ht
      have hV := xV_pR (σ := σ) (ci := 0) (k := 14) (q := q) (v := v) 14 rfl rfl
      exact x_putVF (ci := 0) (k := 14) (ty := (.object "java/util/ArrayList")) (τ := pR σ 14 q v) X hnm rfl rfl q327 (fun _ h => h) rfl rfl rfl (by cases v <;> rfl) (by cases v <;> rfl) ht rfl rfl rfl hV.1 hV.2 d (kk _ hF (ha.pR hw))
    · cases hF
theorem xp_X0_52 {r : Option Nat} {v : Option Nat} {kf : XS → Option α} (X : XX p m c cc nL s args meth D cx ro A ret "TubBites") (hF : sxR σ 1 15 r v kf = some res) (hnm : meth.name = "<init>") (ha : agW n w σ0 σ) (hw : w.2.1.contains 15 = true) (d : decode cc pc = .ok (.putfield 52, 3)) (kk : ∀ σ1, kf σ1 = some res → agW n w σ0 σ1 → GW p l e R s m args below meth c Q (xInv D cx ro A s TL SL t0 s0 σ1) (F0 m (pc + 3) ls (rest))) : GW p l e R s m args below meth c Q (xInv D cx ro A s TL SL t0 s0 σ) (F0 m pc ls (va_rf v :: va_rf r :: rest)) := by
  cases r with
  | none => cases hF
  | some q =>
    simp only [sxR] at hF
    split at hF
    · rename_i ht
      have hV := xV_pR (σ := σ) (ci := 0) (k := 15) (q := q) (v := v) 15 rfl rfl
      exact x_putVF (ci := 0) (k := 15) (ty := (.array (.object "TubBites$Kept"))) (τ := pR σ 15 q v) X hnm rfl rfl q328 (fun _ h => h) rfl rfl rfl (by cases v <;> rfl) (by cases v <;> rfl) ht rfl rfl rfl hV.1 hV.2 d (kk _ hF (ha.pR hw))
    · cases hF
theorem xp_X0_62 {r : Option Nat} {v : Int32} {kf : XS → Option α} (X : XX p m c cc nL s args meth D cx ro A ret "TubBites") (hF : sxI σ 1 12 r v kf = some res) (ha : agW n w σ0 σ) (hw : w.1.contains 12 = true) (d : decode cc pc = .ok (.putfield 62, 3)) (kk : ∀ σ1, kf σ1 = some res → agW n w σ0 σ1 → GW p l e R s m args below meth c Q (xInv D cx ro A s TL SL t0 s0 σ1) (F0 m (pc + 3) ls (rest))) : GW p l e R s m args below meth c Q (xInv D cx ro A s TL SL t0 s0 σ) (F0 m pc ls (.int v :: va_rf r :: rest)) := by
  cases r with
  | none => cases hF
  | some q =>
    simp only [sxI] at hF
    split at hF
    · rename_i ht
      have hV := xV_pI (σ := σ) (ci := 0) (k := 12) (q := q) (v := v) 12 rfl rfl
      exact x_putV (ci := 0) (k := 12) (ty := .int) (τ := pI σ 12 q v) X rfl rfl q325 (fun _ h => h) rfl rfl rfl rfl ht rfl rfl rfl hV.1 hV.2 d (kk _ hF (ha.pI hw))
    · cases hF
theorem xp_X0_65 {r : Option Nat} {v : Option Nat} {kf : XS → Option α} (X : XX p m c cc nL s args meth D cx ro A ret "TubBites") (hF : sxR σ 5 128 r v kf = some res) (ha : agW n w σ0 σ) (hw : w.2.1.contains 128 = true) (d : decode cc pc = .ok (.putfield 65, 3)) (kk : ∀ σ1, kf σ1 = some res → agW n w σ0 σ1 → GW p l e R s m args below meth c Q (xInv D cx ro A s TL SL t0 s0 σ1) (F0 m (pc + 3) ls (rest))) : GW p l e R s m args below meth c Q (xInv D cx ro A s TL SL t0 s0 σ) (F0 m pc ls (va_rf v :: va_rf r :: rest)) := by
  cases r with
  | none => cases hF
  | some q =>
    simp only [sxR] at hF
    split at hF
    · rename_i ht
      have hV := xV_pR (σ := σ) (ci := 4) (k := 0) (q := q) (v := v) 128 rfl rfl
      exact x_putVN (ci := 4) (k := 0) (ty := (.array .int)) (τ := pR σ 128 q v) X rfl rfl (List.mem_of_getElem? (i := 13) rfl) (fun _ h => h) rfl rfl (by cases v <;> rfl) (by cases v <;> rfl) ht rfl rfl rfl hV.1 hV.2 d (kk _ hF (ha.pR hw))
    · cases hF
theorem xp_X0_114 {r : Option Nat} {v : Int32} {kf : XS → Option α} (X : XX p m c cc nL s args meth D cx ro A ret "TubBites") (hF : sxI σ 1 2 r v kf = some res) (ha : agW n w σ0 σ) (hw : w.1.contains 2 = true) (d : decode cc pc = .ok (.putfield 114, 3)) (kk : ∀ σ1, kf σ1 = some res → agW n w σ0 σ1 → GW p l e R s m args below meth c Q (xInv D cx ro A s TL SL t0 s0 σ1) (F0 m (pc + 3) ls (rest))) : GW p l e R s m args below meth c Q (xInv D cx ro A s TL SL t0 s0 σ) (F0 m pc ls (.int v :: va_rf r :: rest)) := by
  cases r with
  | none => cases hF
  | some q =>
    simp only [sxI] at hF
    split at hF
    · rename_i ht
      have hV := xV_pI (σ := σ) (ci := 0) (k := 2) (q := q) (v := v) 2 rfl rfl
      exact x_putV (ci := 0) (k := 2) (ty := .int) (τ := pI σ 2 q v) X rfl rfl q315 (fun _ h => h) rfl rfl rfl rfl ht rfl rfl rfl hV.1 hV.2 d (kk _ hF (ha.pI hw))
    · cases hF
theorem xp_X0_153 {r : Option Nat} {v : Int32} {kf : XS → Option α} (X : XX p m c cc nL s args meth D cx ro A ret "TubBites") (hF : sxI σ 13 393 r v kf = some res) (ha : agW n w σ0 σ) (hw : w.1.contains 393 = true) (d : decode cc pc = .ok (.putfield 153, 3)) (kk : ∀ σ1, kf σ1 = some res → agW n w σ0 σ1 → GW p l e R s m args below meth c Q (xInv D cx ro A s TL SL t0 s0 σ1) (F0 m (pc + 3) ls (rest))) : GW p l e R s m args below meth c Q (xInv D cx ro A s TL SL t0 s0 σ) (F0 m pc ls (.int v :: va_rf r :: rest)) := by
  cases r with
  | none => cases hF
  | some q =>
    simp only [sxI] at hF
    split at hF
    · rename_i ht
      have hV := xV_pI (σ := σ) (ci := 12) (k := 9) (q := q) (v := v) 393 rfl rfl
      exact x_putVN (ci := 12) (k := 9) (ty := .int) (τ := pI σ 393 q v) X rfl rfl (List.mem_of_getElem? (i := 19) rfl) (fun _ h => h) rfl rfl rfl rfl ht rfl rfl rfl hV.1 hV.2 d (kk _ hF (ha.pI hw))
    · cases hF
theorem xp_X0_214 {r : Option Nat} {v : Int32} {kf : XS → Option α} (X : XX p m c cc nL s args meth D cx ro A ret "TubBites") (hF : sxI σ 1 8 r v kf = some res) (ha : agW n w σ0 σ) (hw : w.1.contains 8 = true) (d : decode cc pc = .ok (.putfield 214, 3)) (kk : ∀ σ1, kf σ1 = some res → agW n w σ0 σ1 → GW p l e R s m args below meth c Q (xInv D cx ro A s TL SL t0 s0 σ1) (F0 m (pc + 3) ls (rest))) : GW p l e R s m args below meth c Q (xInv D cx ro A s TL SL t0 s0 σ) (F0 m pc ls (.int v :: va_rf r :: rest)) := by
  cases r with
  | none => cases hF
  | some q =>
    simp only [sxI] at hF
    split at hF
    · rename_i ht
      have hV := xV_pI (σ := σ) (ci := 0) (k := 8) (q := q) (v := v) 8 rfl rfl
      exact x_putV (ci := 0) (k := 8) (ty := .int) (τ := pI σ 8 q v) X rfl rfl q321 (fun _ h => h) rfl rfl rfl rfl ht rfl rfl rfl hV.1 hV.2 d (kk _ hF (ha.pI hw))
    · cases hF
theorem xp_X0_246 {r : Option Nat} {v : Int32} {kf : XS → Option α} (X : XX p m c cc nL s args meth D cx ro A ret "TubBites") (hF : sxI σ 1 9 r v kf = some res) (ha : agW n w σ0 σ) (hw : w.1.contains 9 = true) (d : decode cc pc = .ok (.putfield 246, 3)) (kk : ∀ σ1, kf σ1 = some res → agW n w σ0 σ1 → GW p l e R s m args below meth c Q (xInv D cx ro A s TL SL t0 s0 σ1) (F0 m (pc + 3) ls (rest))) : GW p l e R s m args below meth c Q (xInv D cx ro A s TL SL t0 s0 σ) (F0 m pc ls (.int v :: va_rf r :: rest)) := by
  cases r with
  | none => cases hF
  | some q =>
    simp only [sxI] at hF
    split at hF
    · rename_i ht
      have hV := xV_pI (σ := σ) (ci := 0) (k := 9) (q := q) (v := v) 9 rfl rfl
      exact x_putV (ci := 0) (k := 9) (ty := .int) (τ := pI σ 9 q v) X rfl rfl q322 (fun _ h => h) rfl rfl rfl rfl ht rfl rfl rfl hV.1 hV.2 d (kk _ hF (ha.pI hw))
    · cases hF
theorem xp_X0_274 {r : Option Nat} {v : Int32} {kf : XS → Option α} (X : XX p m c cc nL s args meth D cx ro A ret "TubBites") (hF : sxI σ 14 417 r v kf = some res) (ha : agW n w σ0 σ) (hw : w.1.contains 417 = true) (d : decode cc pc = .ok (.putfield 274, 3)) (kk : ∀ σ1, kf σ1 = some res → agW n w σ0 σ1 → GW p l e R s m args below meth c Q (xInv D cx ro A s TL SL t0 s0 σ1) (F0 m (pc + 3) ls (rest))) : GW p l e R s m args below meth c Q (xInv D cx ro A s TL SL t0 s0 σ) (F0 m pc ls (.int v :: va_rf r :: rest)) := by
  cases r with
  | none => cases hF
  | some q =>
    simp only [sxI] at hF
    split at hF
    · rename_i ht
      have hV := xV_pI (σ := σ) (ci := 13) (k := 1) (q := q) (v := v) 417 rfl rfl
      exact x_putVN (ci := 13) (k := 1) (ty := .int) (τ := pI σ 417 q v) X rfl rfl (List.mem_of_getElem? (i := 22) rfl) (fun _ h => h) rfl rfl rfl rfl ht rfl rfl rfl hV.1 hV.2 d (kk _ hF (ha.pI hw))
    · cases hF
theorem xp_X0_275 {r : Option Nat} {v : Int32} {kf : XS → Option α} (X : XX p m c cc nL s args meth D cx ro A ret "TubBites") (hF : sxI σ 14 418 r v kf = some res) (ha : agW n w σ0 σ) (hw : w.1.contains 418 = true) (d : decode cc pc = .ok (.putfield 275, 3)) (kk : ∀ σ1, kf σ1 = some res → agW n w σ0 σ1 → GW p l e R s m args below meth c Q (xInv D cx ro A s TL SL t0 s0 σ1) (F0 m (pc + 3) ls (rest))) : GW p l e R s m args below meth c Q (xInv D cx ro A s TL SL t0 s0 σ) (F0 m pc ls (.int v :: va_rf r :: rest)) := by
  cases r with
  | none => cases hF
  | some q =>
    simp only [sxI] at hF
    split at hF
    · rename_i ht
      have hV := xV_pI (σ := σ) (ci := 13) (k := 2) (q := q) (v := v) 418 rfl rfl
      exact x_putVN (ci := 13) (k := 2) (ty := .int) (τ := pI σ 418 q v) X rfl rfl (List.mem_of_getElem? (i := 23) rfl) (fun _ h => h) rfl rfl rfl rfl ht rfl rfl rfl hV.1 hV.2 d (kk _ hF (ha.pI hw))
    · cases hF
theorem xp_X0_332 {r : Option Nat} {v : Int32} {kf : XS → Option α} (X : XX p m c cc nL s args meth D cx ro A ret "TubBites") (hF : sxI σ 1 3 r v kf = some res) (ha : agW n w σ0 σ) (hw : w.1.contains 3 = true) (d : decode cc pc = .ok (.putfield 332, 3)) (kk : ∀ σ1, kf σ1 = some res → agW n w σ0 σ1 → GW p l e R s m args below meth c Q (xInv D cx ro A s TL SL t0 s0 σ1) (F0 m (pc + 3) ls (rest))) : GW p l e R s m args below meth c Q (xInv D cx ro A s TL SL t0 s0 σ) (F0 m pc ls (.int v :: va_rf r :: rest)) := by
  cases r with
  | none => cases hF
  | some q =>
    simp only [sxI] at hF
    split at hF
    · rename_i ht
      have hV := xV_pI (σ := σ) (ci := 0) (k := 3) (q := q) (v := v) 3 rfl rfl
      exact x_putV (ci := 0) (k := 3) (ty := .int) (τ := pI σ 3 q v) X rfl rfl q316 (fun _ h => h) rfl rfl rfl rfl ht rfl rfl rfl hV.1 hV.2 d (kk _ hF (ha.pI hw))
    · cases hF
theorem xp_X0_338 {r : Option Nat} {v : Int32} {kf : XS → Option α} (X : XX p m c cc nL s args meth D cx ro A ret "TubBites") (hF : sxI σ 15 452 r v kf = some res) (ha : agW n w σ0 σ) (hw : w.1.contains 452 = true) (d : decode cc pc = .ok (.putfield 338, 3)) (kk : ∀ σ1, kf σ1 = some res → agW n w σ0 σ1 → GW p l e R s m args below meth c Q (xInv D cx ro A s TL SL t0 s0 σ1) (F0 m (pc + 3) ls (rest))) : GW p l e R s m args below meth c Q (xInv D cx ro A s TL SL t0 s0 σ) (F0 m pc ls (.int v :: va_rf r :: rest)) := by
  cases r with
  | none => cases hF
  | some q =>
    simp only [sxI] at hF
    split at hF
    · rename_i ht
      have hV := xV_pI (σ := σ) (ci := 14) (k := 4) (q := q) (v := v) 452 rfl rfl
      exact x_putVN (ci := 14) (k := 4) (ty := .int) (τ := pI σ 452 q v) X rfl rfl (List.mem_of_getElem? (i := 33) rfl) (fun _ h => h) rfl rfl rfl rfl ht rfl rfl rfl hV.1 hV.2 d (kk _ hF (ha.pI hw))
    · cases hF
theorem xp_X1_9 {r : Option Nat} {v : Int32} {kf : XS → Option α} (X : XX p m c cc nL s args meth D cx ro A ret "TubBites$Water") (hF : sxI σ 2 37 r v kf = some res) (ha : agW n w σ0 σ) (hw : w.1.contains 37 = true) (d : decode cc pc = .ok (.putfield 9, 3)) (kk : ∀ σ1, kf σ1 = some res → agW n w σ0 σ1 → GW p l e R s m args below meth c Q (xInv D cx ro A s TL SL t0 s0 σ1) (F0 m (pc + 3) ls (rest))) : GW p l e R s m args below meth c Q (xInv D cx ro A s TL SL t0 s0 σ) (F0 m pc ls (.int v :: va_rf r :: rest)) := by
  cases r with
  | none => cases hF
  | some q =>
    simp only [sxI] at hF
    split at hF
    · rename_i ht
      have hV := xV_pI (σ := σ) (ci := 1) (k := 5) (q := q) (v := v) 37 rfl rfl
      exact x_putV (ci := 1) (k := 5) (ty := .int) (τ := pI σ 37 q v) X rfl rfl q243 (fun _ h => h) rfl rfl rfl rfl ht rfl rfl rfl hV.1 hV.2 d (kk _ hF (ha.pI hw))
    · cases hF
theorem xp_X1_17 {r : Option Nat} {v : Option Nat} {kf : XS → Option α} (X : XX p m c cc nL s args meth D cx ro A ret "TubBites$Water") (hF : sxR σ 2 41 r v kf = some res) (hnm : meth.name = "<init>") (ha : agW n w σ0 σ) (hw : w.2.1.contains 41 = true) (d : decode cc pc = .ok (.putfield 17, 3)) (kk : ∀ σ1, kf σ1 = some res → agW n w σ0 σ1 → GW p l e R s m args below meth c Q (xInv D cx ro A s TL SL t0 s0 σ1) (F0 m (pc + 3) ls (rest))) : GW p l e R s m args below meth c Q (xInv D cx ro A s TL SL t0 s0 σ) (F0 m pc ls (va_rf v :: va_rf r :: rest)) := by
  cases r with
  | none => cases hF
  | some q =>
    simp only [sxR] at hF
    split at hF
    · rename_i ht
      have hV := xV_pR (σ := σ) (ci := 1) (k := 9) (q := q) (v := v) 41 rfl rfl
      exact x_putVF (ci := 1) (k := 9) (ty := (.array (.object "TubBites$Part"))) (τ := pR σ 41 q v) X hnm rfl rfl q249 (fun _ h => h) rfl rfl rfl (by cases v <;> rfl) (by cases v <;> rfl) ht rfl rfl rfl hV.1 hV.2 d (kk _ hF (ha.pR hw))
    · cases hF
theorem xp_X1_24 {r : Option Nat} {v : Option Nat} {kf : XS → Option α} (X : XX p m c cc nL s args meth D cx ro A ret "TubBites$Water") (hF : sxR σ 2 42 r v kf = some res) (hnm : meth.name = "<init>") (ha : agW n w σ0 σ) (hw : w.2.1.contains 42 = true) (d : decode cc pc = .ok (.putfield 24, 3)) (kk : ∀ σ1, kf σ1 = some res → agW n w σ0 σ1 → GW p l e R s m args below meth c Q (xInv D cx ro A s TL SL t0 s0 σ1) (F0 m (pc + 3) ls (rest))) : GW p l e R s m args below meth c Q (xInv D cx ro A s TL SL t0 s0 σ) (F0 m pc ls (va_rf v :: va_rf r :: rest)) := by
  cases r with
  | none => cases hF
  | some q =>
    simp only [sxR] at hF
    split at hF
    · rename_i ht
      have hV := xV_pR (σ := σ) (ci := 1) (k := 10) (q := q) (v := v) 42 rfl rfl
      exact x_putVF (ci := 1) (k := 10) (ty := (.object "java/util/ArrayList")) (τ := pR σ 42 q v) X hnm rfl rfl q251 (fun _ h => h) rfl rfl rfl (by cases v <;> rfl) (by cases v <;> rfl) ht rfl rfl rfl hV.1 hV.2 d (kk _ hF (ha.pR hw))
    · cases hF
theorem xp_X1_28 {r : Option Nat} {v : Option Nat} {kf : XS → Option α} (X : XX p m c cc nL s args meth D cx ro A ret "TubBites$Water") (hF : sxR σ 2 43 r v kf = some res) (hnm : meth.name = "<init>") (ha : agW n w σ0 σ) (hw : w.2.1.contains 43 = true) (d : decode cc pc = .ok (.putfield 28, 3)) (kk : ∀ σ1, kf σ1 = some res → agW n w σ0 σ1 → GW p l e R s m args below meth c Q (xInv D cx ro A s TL SL t0 s0 σ1) (F0 m (pc + 3) ls (rest))) : GW p l e R s m args below meth c Q (xInv D cx ro A s TL SL t0 s0 σ) (F0 m pc ls (va_rf v :: va_rf r :: rest)) := by
  cases r with
  | none => cases hF
  | some q =>
    simp only [sxR] at hF
    split at hF
    · rename_i ht
      have hV := xV_pR (σ := σ) (ci := 1) (k := 11) (q := q) (v := v) 43 rfl rfl
      exact x_putVF (ci := 1) (k := 11) (ty := (.object "java/util/ArrayList")) (τ := pR σ 43 q v) X hnm rfl rfl q254 (fun _ h => h) rfl rfl rfl (by cases v <;> rfl) (by cases v <;> rfl) ht rfl rfl rfl hV.1 hV.2 d (kk _ hF (ha.pR hw))
    · cases hF
theorem xp_X1_31 {r : Option Nat} {v : Option Nat} {kf : XS → Option α} (X : XX p m c cc nL s args meth D cx ro A ret "TubBites$Water") (hF : sxR σ 2 44 r v kf = some res) (hnm : meth.name = "<init>") (ha : agW n w σ0 σ) (hw : w.2.1.contains 44 = true) (d : decode cc pc = .ok (.putfield 31, 3)) (kk : ∀ σ1, kf σ1 = some res → agW n w σ0 σ1 → GW p l e R s m args below meth c Q (xInv D cx ro A s TL SL t0 s0 σ1) (F0 m (pc + 3) ls (rest))) : GW p l e R s m args below meth c Q (xInv D cx ro A s TL SL t0 s0 σ) (F0 m pc ls (va_rf v :: va_rf r :: rest)) := by
  cases r with
  | none => cases hF
  | some q =>
    simp only [sxR] at hF
    split at hF
    · rename_i ht
      have hV := xV_pR (σ := σ) (ci := 1) (k := 12) (q := q) (v := v) 44 rfl rfl
      exact x_putVF (ci := 1) (k := 12) (ty := (.object "java/util/ArrayList")) (τ := pR σ 44 q v) X hnm rfl rfl q257 (fun _ h => h) rfl rfl rfl (by cases v <;> rfl) (by cases v <;> rfl) ht rfl rfl rfl hV.1 hV.2 d (kk _ hF (ha.pR hw))
    · cases hF
theorem xp_X1_37 {r : Option Nat} {v : Option Nat} {kf : XS → Option α} (X : XX p m c cc nL s args meth D cx ro A ret "TubBites$Water") (hF : sxR σ 2 45 r v kf = some res) (hnm : meth.name = "<init>") (ha : agW n w σ0 σ) (hw : w.2.1.contains 45 = true) (d : decode cc pc = .ok (.putfield 37, 3)) (kk : ∀ σ1, kf σ1 = some res → agW n w σ0 σ1 → GW p l e R s m args below meth c Q (xInv D cx ro A s TL SL t0 s0 σ1) (F0 m (pc + 3) ls (rest))) : GW p l e R s m args below meth c Q (xInv D cx ro A s TL SL t0 s0 σ) (F0 m pc ls (va_rf v :: va_rf r :: rest)) := by
  cases r with
  | none => cases hF
  | some q =>
    simp only [sxR] at hF
    split at hF
    · rename_i ht
      have hV := xV_pR (σ := σ) (ci := 1) (k := 13) (q := q) (v := v) 45 rfl rfl
      exact x_putVF (ci := 1) (k := 13) (ty := (.object "TubBites$Told")) (τ := pR σ 45 q v) X hnm rfl rfl q260 (fun _ h => h) rfl rfl rfl (by cases v <;> rfl) (by cases v <;> rfl) ht rfl rfl rfl hV.1 hV.2 d (kk _ hF (ha.pR hw))
    · cases hF
theorem xp_X1_70 {r : Option Nat} {v : Int32} {kf : XS → Option α} (X : XX p m c cc nL s args meth D cx ro A ret "TubBites$Water") (hF : sxI σ 2 35 r v kf = some res) (ha : agW n w σ0 σ) (hw : w.1.contains 35 = true) (d : decode cc pc = .ok (.putfield 70, 3)) (kk : ∀ σ1, kf σ1 = some res → agW n w σ0 σ1 → GW p l e R s m args below meth c Q (xInv D cx ro A s TL SL t0 s0 σ1) (F0 m (pc + 3) ls (rest))) : GW p l e R s m args below meth c Q (xInv D cx ro A s TL SL t0 s0 σ) (F0 m pc ls (.int v :: va_rf r :: rest)) := by
  cases r with
  | none => cases hF
  | some q =>
    simp only [sxI] at hF
    split at hF
    · rename_i ht
      have hV := xV_pI (σ := σ) (ci := 1) (k := 3) (q := q) (v := v) 35 rfl rfl
      exact x_putV (ci := 1) (k := 3) (ty := .int) (τ := pI σ 35 q v) X rfl rfl q239 (fun _ h => h) rfl rfl rfl rfl ht rfl rfl rfl hV.1 hV.2 d (kk _ hF (ha.pI hw))
    · cases hF
theorem xp_X1_73 {r : Option Nat} {v : Int32} {kf : XS → Option α} (X : XX p m c cc nL s args meth D cx ro A ret "TubBites$Water") (hF : sxI σ 13 393 r v kf = some res) (ha : agW n w σ0 σ) (hw : w.1.contains 393 = true) (d : decode cc pc = .ok (.putfield 73, 3)) (kk : ∀ σ1, kf σ1 = some res → agW n w σ0 σ1 → GW p l e R s m args below meth c Q (xInv D cx ro A s TL SL t0 s0 σ1) (F0 m (pc + 3) ls (rest))) : GW p l e R s m args below meth c Q (xInv D cx ro A s TL SL t0 s0 σ) (F0 m pc ls (.int v :: va_rf r :: rest)) := by
  cases r with
  | none => cases hF
  | some q =>
    simp only [sxI] at hF
    split at hF
    · rename_i ht
      have hV := xV_pI (σ := σ) (ci := 12) (k := 9) (q := q) (v := v) 393 rfl rfl
      exact x_putVN (ci := 12) (k := 9) (ty := .int) (τ := pI σ 393 q v) X rfl rfl (List.mem_of_getElem? (i := 41) rfl) (fun _ h => h) rfl rfl rfl rfl ht rfl rfl rfl hV.1 hV.2 d (kk _ hF (ha.pI hw))
    · cases hF
theorem xp_X1_76 {r : Option Nat} {v : Int32} {kf : XS → Option α} (X : XX p m c cc nL s args meth D cx ro A ret "TubBites$Water") (hF : sxI σ 13 391 r v kf = some res) (ha : agW n w σ0 σ) (hw : w.1.contains 391 = true) (d : decode cc pc = .ok (.putfield 76, 3)) (kk : ∀ σ1, kf σ1 = some res → agW n w σ0 σ1 → GW p l e R s m args below meth c Q (xInv D cx ro A s TL SL t0 s0 σ1) (F0 m (pc + 3) ls (rest))) : GW p l e R s m args below meth c Q (xInv D cx ro A s TL SL t0 s0 σ) (F0 m pc ls (.int v :: va_rf r :: rest)) := by
  cases r with
  | none => cases hF
  | some q =>
    simp only [sxI] at hF
    split at hF
    · rename_i ht
      have hV := xV_pI (σ := σ) (ci := 12) (k := 7) (q := q) (v := v) 391 rfl rfl
      exact x_putVN (ci := 12) (k := 7) (ty := .int) (τ := pI σ 391 q v) X rfl rfl (List.mem_of_getElem? (i := 39) rfl) (fun _ h => h) rfl rfl rfl rfl ht rfl rfl rfl hV.1 hV.2 d (kk _ hF (ha.pI hw))
    · cases hF
theorem xp_X1_79 {r : Option Nat} {v : Int32} {kf : XS → Option α} (X : XX p m c cc nL s args meth D cx ro A ret "TubBites$Water") (hF : sxI σ 13 392 r v kf = some res) (ha : agW n w σ0 σ) (hw : w.1.contains 392 = true) (d : decode cc pc = .ok (.putfield 79, 3)) (kk : ∀ σ1, kf σ1 = some res → agW n w σ0 σ1 → GW p l e R s m args below meth c Q (xInv D cx ro A s TL SL t0 s0 σ1) (F0 m (pc + 3) ls (rest))) : GW p l e R s m args below meth c Q (xInv D cx ro A s TL SL t0 s0 σ) (F0 m pc ls (.int v :: va_rf r :: rest)) := by
  cases r with
  | none => cases hF
  | some q =>
    simp only [sxI] at hF
    split at hF
    · rename_i ht
      have hV := xV_pI (σ := σ) (ci := 12) (k := 8) (q := q) (v := v) 392 rfl rfl
      exact x_putVN (ci := 12) (k := 8) (ty := .int) (τ := pI σ 392 q v) X rfl rfl (List.mem_of_getElem? (i := 40) rfl) (fun _ h => h) rfl rfl rfl rfl ht rfl rfl rfl hV.1 hV.2 d (kk _ hF (ha.pI hw))
    · cases hF
theorem xp_X1_122 {r : Option Nat} {v : Int32} {kf : XS → Option α} (X : XX p m c cc nL s args meth D cx ro A ret "TubBites$Water") (hF : sxI σ 13 395 r v kf = some res) (ha : agW n w σ0 σ) (hw : w.1.contains 395 = true) (d : decode cc pc = .ok (.putfield 122, 3)) (kk : ∀ σ1, kf σ1 = some res → agW n w σ0 σ1 → GW p l e R s m args below meth c Q (xInv D cx ro A s TL SL t0 s0 σ1) (F0 m (pc + 3) ls (rest))) : GW p l e R s m args below meth c Q (xInv D cx ro A s TL SL t0 s0 σ) (F0 m pc ls (.int v :: va_rf r :: rest)) := by
  cases r with
  | none => cases hF
  | some q =>
    simp only [sxI] at hF
    split at hF
    · rename_i ht
      have hV := xV_pI (σ := σ) (ci := 12) (k := 11) (q := q) (v := v) 395 rfl rfl
      exact x_putVN (ci := 12) (k := 11) (ty := .int) (τ := pI σ 395 q v) X rfl rfl (List.mem_of_getElem? (i := 43) rfl) (fun _ h => h) rfl rfl rfl rfl ht rfl rfl rfl hV.1 hV.2 d (kk _ hF (ha.pI hw))
    · cases hF
theorem xp_X1_138 {r : Option Nat} {v : Int32} {kf : XS → Option α} (X : XX p m c cc nL s args meth D cx ro A ret "TubBites$Water") (hF : sxI σ 13 394 r v kf = some res) (ha : agW n w σ0 σ) (hw : w.1.contains 394 = true) (d : decode cc pc = .ok (.putfield 138, 3)) (kk : ∀ σ1, kf σ1 = some res → agW n w σ0 σ1 → GW p l e R s m args below meth c Q (xInv D cx ro A s TL SL t0 s0 σ1) (F0 m (pc + 3) ls (rest))) : GW p l e R s m args below meth c Q (xInv D cx ro A s TL SL t0 s0 σ) (F0 m pc ls (.int v :: va_rf r :: rest)) := by
  cases r with
  | none => cases hF
  | some q =>
    simp only [sxI] at hF
    split at hF
    · rename_i ht
      have hV := xV_pI (σ := σ) (ci := 12) (k := 10) (q := q) (v := v) 394 rfl rfl
      exact x_putVN (ci := 12) (k := 10) (ty := .int) (τ := pI σ 394 q v) X rfl rfl (List.mem_of_getElem? (i := 42) rfl) (fun _ h => h) rfl rfl rfl rfl ht rfl rfl rfl hV.1 hV.2 d (kk _ hF (ha.pI hw))
    · cases hF
theorem xp_X1_144 {r : Option Nat} {v : Int32} {kf : XS → Option α} (X : XX p m c cc nL s args meth D cx ro A ret "TubBites$Water") (hF : sxI σ 14 423 r v kf = some res) (ha : agW n w σ0 σ) (hw : w.1.contains 423 = true) (d : decode cc pc = .ok (.putfield 144, 3)) (kk : ∀ σ1, kf σ1 = some res → agW n w σ0 σ1 → GW p l e R s m args below meth c Q (xInv D cx ro A s TL SL t0 s0 σ1) (F0 m (pc + 3) ls (rest))) : GW p l e R s m args below meth c Q (xInv D cx ro A s TL SL t0 s0 σ) (F0 m pc ls (.int v :: va_rf r :: rest)) := by
  cases r with
  | none => cases hF
  | some q =>
    simp only [sxI] at hF
    split at hF
    · rename_i ht
      have hV := xV_pI (σ := σ) (ci := 13) (k := 7) (q := q) (v := v) 423 rfl rfl
      exact x_putVN (ci := 13) (k := 7) (ty := .int) (τ := pI σ 423 q v) X rfl rfl (List.mem_of_getElem? (i := 49) rfl) (fun _ h => h) rfl rfl rfl rfl ht rfl rfl rfl hV.1 hV.2 d (kk _ hF (ha.pI hw))
    · cases hF
theorem xp_X1_194 {r : Option Nat} {v : Int32} {kf : XS → Option α} (X : XX p m c cc nL s args meth D cx ro A ret "TubBites$Water") (hF : sxI σ 14 425 r v kf = some res) (ha : agW n w σ0 σ) (hw : w.1.contains 425 = true) (d : decode cc pc = .ok (.putfield 194, 3)) (kk : ∀ σ1, kf σ1 = some res → agW n w σ0 σ1 → GW p l e R s m args below meth c Q (xInv D cx ro A s TL SL t0 s0 σ1) (F0 m (pc + 3) ls (rest))) : GW p l e R s m args below meth c Q (xInv D cx ro A s TL SL t0 s0 σ) (F0 m pc ls (.int v :: va_rf r :: rest)) := by
  cases r with
  | none => cases hF
  | some q =>
    simp only [sxI] at hF
    split at hF
    · rename_i ht
      have hV := xV_pI (σ := σ) (ci := 13) (k := 9) (q := q) (v := v) 425 rfl rfl
      exact x_putVN (ci := 13) (k := 9) (ty := .int) (τ := pI σ 425 q v) X rfl rfl (List.mem_of_getElem? (i := 51) rfl) (fun _ h => h) rfl rfl rfl rfl ht rfl rfl rfl hV.1 hV.2 d (kk _ hF (ha.pI hw))
    · cases hF
theorem xp_X1_206 {r : Option Nat} {v : Int32} {kf : XS → Option α} (X : XX p m c cc nL s args meth D cx ro A ret "TubBites$Water") (hF : sxI σ 14 424 r v kf = some res) (ha : agW n w σ0 σ) (hw : w.1.contains 424 = true) (d : decode cc pc = .ok (.putfield 206, 3)) (kk : ∀ σ1, kf σ1 = some res → agW n w σ0 σ1 → GW p l e R s m args below meth c Q (xInv D cx ro A s TL SL t0 s0 σ1) (F0 m (pc + 3) ls (rest))) : GW p l e R s m args below meth c Q (xInv D cx ro A s TL SL t0 s0 σ) (F0 m pc ls (.int v :: va_rf r :: rest)) := by
  cases r with
  | none => cases hF
  | some q =>
    simp only [sxI] at hF
    split at hF
    · rename_i ht
      have hV := xV_pI (σ := σ) (ci := 13) (k := 8) (q := q) (v := v) 424 rfl rfl
      exact x_putVN (ci := 13) (k := 8) (ty := .int) (τ := pI σ 424 q v) X rfl rfl (List.mem_of_getElem? (i := 50) rfl) (fun _ h => h) rfl rfl rfl rfl ht rfl rfl rfl hV.1 hV.2 d (kk _ hF (ha.pI hw))
    · cases hF
theorem xp_X10_7 {r : Option Nat} {v : Int32} {kf : XS → Option α} (X : XX p m c cc nL s args meth D cx ro A ret "TubBites$Numeral") (hF : sxI σ 10 288 r v kf = some res) (hnm : meth.name = "<init>") (ha : agW n w σ0 σ) (hw : w.1.contains 288 = true) (d : decode cc pc = .ok (.putfield 7, 3)) (kk : ∀ σ1, kf σ1 = some res → agW n w σ0 σ1 → GW p l e R s m args below meth c Q (xInv D cx ro A s TL SL t0 s0 σ1) (F0 m (pc + 3) ls (rest))) : GW p l e R s m args below meth c Q (xInv D cx ro A s TL SL t0 s0 σ) (F0 m pc ls (.int v :: va_rf r :: rest)) := by
  cases r with
  | none => cases hF
  | some q =>
    simp only [sxI] at hF
    split at hF
    · rename_i ht
      have hV := xV_pI (σ := σ) (ci := 9) (k := 0) (q := q) (v := v) 288 rfl rfl
      exact x_putVF (ci := 9) (k := 0) (ty := .int) (τ := pI σ 288 q v) X hnm rfl rfl q701 (fun _ h => h) rfl rfl rfl rfl rfl ht rfl rfl rfl hV.1 hV.2 d (kk _ hF (ha.pI hw))
    · cases hF
theorem xp_X11_7 {r : Option Nat} {v : Int32} {kf : XS → Option α} (X : XX p m c cc nL s args meth D cx ro A ret "TubBites$Named") (hF : sxI σ 11 320 r v kf = some res) (hnm : meth.name = "<init>") (ha : agW n w σ0 σ) (hw : w.1.contains 320 = true) (d : decode cc pc = .ok (.putfield 7, 3)) (kk : ∀ σ1, kf σ1 = some res → agW n w σ0 σ1 → GW p l e R s m args below meth c Q (xInv D cx ro A s TL SL t0 s0 σ1) (F0 m (pc + 3) ls (rest))) : GW p l e R s m args below meth c Q (xInv D cx ro A s TL SL t0 s0 σ) (F0 m pc ls (.int v :: va_rf r :: rest)) := by
  cases r with
  | none => cases hF
  | some q =>
    simp only [sxI] at hF
    split at hF
    · rename_i ht
      have hV := xV_pI (σ := σ) (ci := 10) (k := 0) (q := q) (v := v) 320 rfl rfl
      exact x_putVF (ci := 10) (k := 0) (ty := .int) (τ := pI σ 320 q v) X hnm rfl rfl q711 (fun _ h => h) rfl rfl rfl rfl rfl ht rfl rfl rfl hV.1 hV.2 d (kk _ hF (ha.pI hw))
    · cases hF
theorem xp_X12_7 {r : Option Nat} {v : Int32} {kf : XS → Option α} (X : XX p m c cc nL s args meth D cx ro A ret "TubBites$Two") (hF : sxI σ 12 352 r v kf = some res) (hnm : meth.name = "<init>") (ha : agW n w σ0 σ) (hw : w.1.contains 352 = true) (d : decode cc pc = .ok (.putfield 7, 3)) (kk : ∀ σ1, kf σ1 = some res → agW n w σ0 σ1 → GW p l e R s m args below meth c Q (xInv D cx ro A s TL SL t0 s0 σ1) (F0 m (pc + 3) ls (rest))) : GW p l e R s m args below meth c Q (xInv D cx ro A s TL SL t0 s0 σ) (F0 m pc ls (.int v :: va_rf r :: rest)) := by
  cases r with
  | none => cases hF
  | some q =>
    simp only [sxI] at hF
    split at hF
    · rename_i ht
      have hV := xV_pI (σ := σ) (ci := 11) (k := 0) (q := q) (v := v) 352 rfl rfl
      exact x_putVF (ci := 11) (k := 0) (ty := .int) (τ := pI σ 352 q v) X hnm rfl rfl q721 (fun _ h => h) rfl rfl rfl rfl rfl ht rfl rfl rfl hV.1 hV.2 d (kk _ hF (ha.pI hw))
    · cases hF
theorem xp_X12_13 {r : Option Nat} {v : Option Nat} {kf : XS → Option α} (X : XX p m c cc nL s args meth D cx ro A ret "TubBites$Two") (hF : sxR σ 12 353 r v kf = some res) (hnm : meth.name = "<init>") (ha : agW n w σ0 σ) (hw : w.2.1.contains 353 = true) (d : decode cc pc = .ok (.putfield 13, 3)) (kk : ∀ σ1, kf σ1 = some res → agW n w σ0 σ1 → GW p l e R s m args below meth c Q (xInv D cx ro A s TL SL t0 s0 σ1) (F0 m (pc + 3) ls (rest))) : GW p l e R s m args below meth c Q (xInv D cx ro A s TL SL t0 s0 σ) (F0 m pc ls (va_rf v :: va_rf r :: rest)) := by
  cases r with
  | none => cases hF
  | some q =>
    simp only [sxR] at hF
    split at hF
    · rename_i ht
      have hV := xV_pR (σ := σ) (ci := 11) (k := 1) (q := q) (v := v) 353 rfl rfl
      exact x_putVF (ci := 11) (k := 1) (ty := (.object "TubBites$Part")) (τ := pR σ 353 q v) X hnm rfl rfl q722 (fun _ h => h) rfl rfl rfl (by cases v <;> rfl) (by cases v <;> rfl) ht rfl rfl rfl hV.1 hV.2 d (kk _ hF (ha.pR hw))
    · cases hF
theorem xp_X12_17 {r : Option Nat} {v : Option Nat} {kf : XS → Option α} (X : XX p m c cc nL s args meth D cx ro A ret "TubBites$Two") (hF : sxR σ 12 354 r v kf = some res) (hnm : meth.name = "<init>") (ha : agW n w σ0 σ) (hw : w.2.1.contains 354 = true) (d : decode cc pc = .ok (.putfield 17, 3)) (kk : ∀ σ1, kf σ1 = some res → agW n w σ0 σ1 → GW p l e R s m args below meth c Q (xInv D cx ro A s TL SL t0 s0 σ1) (F0 m (pc + 3) ls (rest))) : GW p l e R s m args below meth c Q (xInv D cx ro A s TL SL t0 s0 σ) (F0 m pc ls (va_rf v :: va_rf r :: rest)) := by
  cases r with
  | none => cases hF
  | some q =>
    simp only [sxR] at hF
    split at hF
    · rename_i ht
      have hV := xV_pR (σ := σ) (ci := 11) (k := 2) (q := q) (v := v) 354 rfl rfl
      exact x_putVF (ci := 11) (k := 2) (ty := (.object "TubBites$Part")) (τ := pR σ 354 q v) X hnm rfl rfl q723 (fun _ h => h) rfl rfl rfl (by cases v <;> rfl) (by cases v <;> rfl) ht rfl rfl rfl hV.1 hV.2 d (kk _ hF (ha.pR hw))
    · cases hF
theorem xp_X13_9 {r : Option Nat} {v : Int32} {kf : XS → Option α} (X : XX p m c cc nL s args meth D cx ro A ret "TubBites$Apple") (hF : sxI σ 13 389 r v kf = some res) (ha : agW n w σ0 σ) (hw : w.1.contains 389 = true) (d : decode cc pc = .ok (.putfield 9, 3)) (kk : ∀ σ1, kf σ1 = some res → agW n w σ0 σ1 → GW p l e R s m args below meth c Q (xInv D cx ro A s TL SL t0 s0 σ1) (F0 m (pc + 3) ls (rest))) : GW p l e R s m args below meth c Q (xInv D cx ro A s TL SL t0 s0 σ) (F0 m pc ls (.int v :: va_rf r :: rest)) := by
  cases r with
  | none => cases hF
  | some q =>
    simp only [sxI] at hF
    split at hF
    · rename_i ht
      have hV := xV_pI (σ := σ) (ci := 12) (k := 5) (q := q) (v := v) 389 rfl rfl
      exact x_putV (ci := 12) (k := 5) (ty := .int) (τ := pI σ 389 q v) X rfl rfl q839 (fun _ h => h) rfl rfl rfl rfl ht rfl rfl rfl hV.1 hV.2 d (kk _ hF (ha.pI hw))
    · cases hF
theorem xp_X13_15 {r : Option Nat} {v : Int32} {kf : XS → Option α} (X : XX p m c cc nL s args meth D cx ro A ret "TubBites$Apple") (hF : sxI σ 13 393 r v kf = some res) (ha : agW n w σ0 σ) (hw : w.1.contains 393 = true) (d : decode cc pc = .ok (.putfield 15, 3)) (kk : ∀ σ1, kf σ1 = some res → agW n w σ0 σ1 → GW p l e R s m args below meth c Q (xInv D cx ro A s TL SL t0 s0 σ1) (F0 m (pc + 3) ls (rest))) : GW p l e R s m args below meth c Q (xInv D cx ro A s TL SL t0 s0 σ) (F0 m pc ls (.int v :: va_rf r :: rest)) := by
  cases r with
  | none => cases hF
  | some q =>
    simp only [sxI] at hF
    split at hF
    · rename_i ht
      have hV := xV_pI (σ := σ) (ci := 12) (k := 9) (q := q) (v := v) 393 rfl rfl
      exact x_putV (ci := 12) (k := 9) (ty := .int) (τ := pI σ 393 q v) X rfl rfl q857 (fun _ h => h) rfl rfl rfl rfl ht rfl rfl rfl hV.1 hV.2 d (kk _ hF (ha.pI hw))
    · cases hF
theorem xp_X13_18 {r : Option Nat} {v : Int64} {kf : XS → Option α} (X : XX p m c cc nL s args meth D cx ro A ret "TubBites$Apple") (hF : sxL σ 13 384 r v kf = some res) (hnm : meth.name = "<init>") (ha : agW n w σ0 σ) (hw : w.2.2.1.contains 384 = true) (d : decode cc pc = .ok (.putfield 18, 3)) (kk : ∀ σ1, kf σ1 = some res → agW n w σ0 σ1 → GW p l e R s m args below meth c Q (xInv D cx ro A s TL SL t0 s0 σ1) (F0 m (pc + 3) ls (rest))) : GW p l e R s m args below meth c Q (xInv D cx ro A s TL SL t0 s0 σ) (F0 m pc ls (.long v :: va_rf r :: rest)) := by
  cases r with
  | none => cases hF
  | some q =>
    simp only [sxL] at hF
    split at hF
    · rename_i ht
      have hV := xV_pL (σ := σ) (ci := 12) (k := 0) (q := q) (v := v) 384 rfl rfl
      exact x_putVF (ci := 12) (k := 0) (ty := .long) (τ := pL σ 384 q v) X hnm rfl rfl q828 (fun _ h => h) rfl rfl rfl rfl rfl ht rfl rfl rfl hV.1 hV.2 d (kk _ hF (ha.pL hw))
    · cases hF
theorem xp_X13_25 {r : Option Nat} {v : Int32} {kf : XS → Option α} (X : XX p m c cc nL s args meth D cx ro A ret "TubBites$Apple") (hF : sxI σ 13 391 r v kf = some res) (ha : agW n w σ0 σ) (hw : w.1.contains 391 = true) (d : decode cc pc = .ok (.putfield 25, 3)) (kk : ∀ σ1, kf σ1 = some res → agW n w σ0 σ1 → GW p l e R s m args below meth c Q (xInv D cx ro A s TL SL t0 s0 σ1) (F0 m (pc + 3) ls (rest))) : GW p l e R s m args below meth c Q (xInv D cx ro A s TL SL t0 s0 σ) (F0 m pc ls (.int v :: va_rf r :: rest)) := by
  cases r with
  | none => cases hF
  | some q =>
    simp only [sxI] at hF
    split at hF
    · rename_i ht
      have hV := xV_pI (σ := σ) (ci := 12) (k := 7) (q := q) (v := v) 391 rfl rfl
      exact x_putV (ci := 12) (k := 7) (ty := .int) (τ := pI σ 391 q v) X rfl rfl q845 (fun _ h => h) rfl rfl rfl rfl ht rfl rfl rfl hV.1 hV.2 d (kk _ hF (ha.pI hw))
    · cases hF
theorem xp_X13_31 {r : Option Nat} {v : Int32} {kf : XS → Option α} (X : XX p m c cc nL s args meth D cx ro A ret "TubBites$Apple") (hF : sxI σ 13 392 r v kf = some res) (ha : agW n w σ0 σ) (hw : w.1.contains 392 = true) (d : decode cc pc = .ok (.putfield 31, 3)) (kk : ∀ σ1, kf σ1 = some res → agW n w σ0 σ1 → GW p l e R s m args below meth c Q (xInv D cx ro A s TL SL t0 s0 σ1) (F0 m (pc + 3) ls (rest))) : GW p l e R s m args below meth c Q (xInv D cx ro A s TL SL t0 s0 σ) (F0 m pc ls (.int v :: va_rf r :: rest)) := by
  cases r with
  | none => cases hF
  | some q =>
    simp only [sxI] at hF
    split at hF
    · rename_i ht
      have hV := xV_pI (σ := σ) (ci := 12) (k := 8) (q := q) (v := v) 392 rfl rfl
      exact x_putV (ci := 12) (k := 8) (ty := .int) (τ := pI σ 392 q v) X rfl rfl q851 (fun _ h => h) rfl rfl rfl rfl ht rfl rfl rfl hV.1 hV.2 d (kk _ hF (ha.pI hw))
    · cases hF
theorem xp_X13_34 {r : Option Nat} {v : Int32} {kf : XS → Option α} (X : XX p m c cc nL s args meth D cx ro A ret "TubBites$Apple") (hF : sxI σ 13 394 r v kf = some res) (ha : agW n w σ0 σ) (hw : w.1.contains 394 = true) (d : decode cc pc = .ok (.putfield 34, 3)) (kk : ∀ σ1, kf σ1 = some res → agW n w σ0 σ1 → GW p l e R s m args below meth c Q (xInv D cx ro A s TL SL t0 s0 σ1) (F0 m (pc + 3) ls (rest))) : GW p l e R s m args below meth c Q (xInv D cx ro A s TL SL t0 s0 σ) (F0 m pc ls (.int v :: va_rf r :: rest)) := by
  cases r with
  | none => cases hF
  | some q =>
    simp only [sxI] at hF
    split at hF
    · rename_i ht
      have hV := xV_pI (σ := σ) (ci := 12) (k := 10) (q := q) (v := v) 394 rfl rfl
      exact x_putV (ci := 12) (k := 10) (ty := .int) (τ := pI σ 394 q v) X rfl rfl q861 (fun _ h => h) rfl rfl rfl rfl ht rfl rfl rfl hV.1 hV.2 d (kk _ hF (ha.pI hw))
    · cases hF
theorem xp_X13_40 {r : Option Nat} {v : Int32} {kf : XS → Option α} (X : XX p m c cc nL s args meth D cx ro A ret "TubBites$Apple") (hF : sxI σ 13 395 r v kf = some res) (ha : agW n w σ0 σ) (hw : w.1.contains 395 = true) (d : decode cc pc = .ok (.putfield 40, 3)) (kk : ∀ σ1, kf σ1 = some res → agW n w σ0 σ1 → GW p l e R s m args below meth c Q (xInv D cx ro A s TL SL t0 s0 σ1) (F0 m (pc + 3) ls (rest))) : GW p l e R s m args below meth c Q (xInv D cx ro A s TL SL t0 s0 σ) (F0 m pc ls (.int v :: va_rf r :: rest)) := by
  cases r with
  | none => cases hF
  | some q =>
    simp only [sxI] at hF
    split at hF
    · rename_i ht
      have hV := xV_pI (σ := σ) (ci := 12) (k := 11) (q := q) (v := v) 395 rfl rfl
      exact x_putV (ci := 12) (k := 11) (ty := .int) (τ := pI σ 395 q v) X rfl rfl q866 (fun _ h => h) rfl rfl rfl rfl ht rfl rfl rfl hV.1 hV.2 d (kk _ hF (ha.pI hw))
    · cases hF
theorem xp_X14_9 {r : Option Nat} {v : Option Nat} {kf : XS → Option α} (X : XX p m c cc nL s args meth D cx ro A ret "TubBites$Bobber") (hF : sxR σ 14 426 r v kf = some res) (hnm : meth.name = "<init>") (ha : agW n w σ0 σ) (hw : w.2.1.contains 426 = true) (d : decode cc pc = .ok (.putfield 9, 3)) (kk : ∀ σ1, kf σ1 = some res → agW n w σ0 σ1 → GW p l e R s m args below meth c Q (xInv D cx ro A s TL SL t0 s0 σ1) (F0 m (pc + 3) ls (rest))) : GW p l e R s m args below meth c Q (xInv D cx ro A s TL SL t0 s0 σ) (F0 m pc ls (va_rf v :: va_rf r :: rest)) := by
  cases r with
  | none => cases hF
  | some q =>
    simp only [sxR] at hF
    split at hF
    · rename_i ht
      have hV := xV_pR (σ := σ) (ci := 13) (k := 10) (q := q) (v := v) 426 rfl rfl
      exact x_putVF (ci := 13) (k := 10) (ty := (.array .int)) (τ := pR σ 426 q v) X hnm rfl rfl q943 (fun _ h => h) rfl rfl rfl (by cases v <;> rfl) (by cases v <;> rfl) ht rfl rfl rfl hV.1 hV.2 d (kk _ hF (ha.pR hw))
    · cases hF
theorem xp_X14_15 {r : Option Nat} {v : Int64} {kf : XS → Option α} (X : XX p m c cc nL s args meth D cx ro A ret "TubBites$Bobber") (hF : sxL σ 14 416 r v kf = some res) (hnm : meth.name = "<init>") (ha : agW n w σ0 σ) (hw : w.2.2.1.contains 416 = true) (d : decode cc pc = .ok (.putfield 15, 3)) (kk : ∀ σ1, kf σ1 = some res → agW n w σ0 σ1 → GW p l e R s m args below meth c Q (xInv D cx ro A s TL SL t0 s0 σ1) (F0 m (pc + 3) ls (rest))) : GW p l e R s m args below meth c Q (xInv D cx ro A s TL SL t0 s0 σ) (F0 m pc ls (.long v :: va_rf r :: rest)) := by
  cases r with
  | none => cases hF
  | some q =>
    simp only [sxL] at hF
    split at hF
    · rename_i ht
      have hV := xV_pL (σ := σ) (ci := 13) (k := 0) (q := q) (v := v) 416 rfl rfl
      exact x_putVF (ci := 13) (k := 0) (ty := .long) (τ := pL σ 416 q v) X hnm rfl rfl q913 (fun _ h => h) rfl rfl rfl rfl rfl ht rfl rfl rfl hV.1 hV.2 d (kk _ hF (ha.pL hw))
    · cases hF
theorem xp_X14_23 {r : Option Nat} {v : Int32} {kf : XS → Option α} (X : XX p m c cc nL s args meth D cx ro A ret "TubBites$Bobber") (hF : sxI σ 14 423 r v kf = some res) (ha : agW n w σ0 σ) (hw : w.1.contains 423 = true) (d : decode cc pc = .ok (.putfield 23, 3)) (kk : ∀ σ1, kf σ1 = some res → agW n w σ0 σ1 → GW p l e R s m args below meth c Q (xInv D cx ro A s TL SL t0 s0 σ1) (F0 m (pc + 3) ls (rest))) : GW p l e R s m args below meth c Q (xInv D cx ro A s TL SL t0 s0 σ) (F0 m pc ls (.int v :: va_rf r :: rest)) := by
  cases r with
  | none => cases hF
  | some q =>
    simp only [sxI] at hF
    split at hF
    · rename_i ht
      have hV := xV_pI (σ := σ) (ci := 13) (k := 7) (q := q) (v := v) 423 rfl rfl
      exact x_putV (ci := 13) (k := 7) (ty := .int) (τ := pI σ 423 q v) X rfl rfl q934 (fun _ h => h) rfl rfl rfl rfl ht rfl rfl rfl hV.1 hV.2 d (kk _ hF (ha.pI hw))
    · cases hF
theorem xp_X14_26 {r : Option Nat} {v : Int32} {kf : XS → Option α} (X : XX p m c cc nL s args meth D cx ro A ret "TubBites$Bobber") (hF : sxI σ 14 424 r v kf = some res) (ha : agW n w σ0 σ) (hw : w.1.contains 424 = true) (d : decode cc pc = .ok (.putfield 26, 3)) (kk : ∀ σ1, kf σ1 = some res → agW n w σ0 σ1 → GW p l e R s m args below meth c Q (xInv D cx ro A s TL SL t0 s0 σ1) (F0 m (pc + 3) ls (rest))) : GW p l e R s m args below meth c Q (xInv D cx ro A s TL SL t0 s0 σ) (F0 m pc ls (.int v :: va_rf r :: rest)) := by
  cases r with
  | none => cases hF
  | some q =>
    simp only [sxI] at hF
    split at hF
    · rename_i ht
      have hV := xV_pI (σ := σ) (ci := 13) (k := 8) (q := q) (v := v) 424 rfl rfl
      exact x_putV (ci := 13) (k := 8) (ty := .int) (τ := pI σ 424 q v) X rfl rfl q937 (fun _ h => h) rfl rfl rfl rfl ht rfl rfl rfl hV.1 hV.2 d (kk _ hF (ha.pI hw))
    · cases hF
theorem xp_X14_29 {r : Option Nat} {v : Int32} {kf : XS → Option α} (X : XX p m c cc nL s args meth D cx ro A ret "TubBites$Bobber") (hF : sxI σ 14 425 r v kf = some res) (ha : agW n w σ0 σ) (hw : w.1.contains 425 = true) (d : decode cc pc = .ok (.putfield 29, 3)) (kk : ∀ σ1, kf σ1 = some res → agW n w σ0 σ1 → GW p l e R s m args below meth c Q (xInv D cx ro A s TL SL t0 s0 σ1) (F0 m (pc + 3) ls (rest))) : GW p l e R s m args below meth c Q (xInv D cx ro A s TL SL t0 s0 σ) (F0 m pc ls (.int v :: va_rf r :: rest)) := by
  cases r with
  | none => cases hF
  | some q =>
    simp only [sxI] at hF
    split at hF
    · rename_i ht
      have hV := xV_pI (σ := σ) (ci := 13) (k := 9) (q := q) (v := v) 425 rfl rfl
      exact x_putV (ci := 13) (k := 9) (ty := .int) (τ := pI σ 425 q v) X rfl rfl q940 (fun _ h => h) rfl rfl rfl rfl ht rfl rfl rfl hV.1 hV.2 d (kk _ hF (ha.pI hw))
    · cases hF
theorem xp_X15_9 {r : Option Nat} {v : Int32} {kf : XS → Option α} (X : XX p m c cc nL s args meth D cx ro A ret "TubBites$Pick") (hF : sxI σ 15 452 r v kf = some res) (ha : agW n w σ0 σ) (hw : w.1.contains 452 = true) (d : decode cc pc = .ok (.putfield 9, 3)) (kk : ∀ σ1, kf σ1 = some res → agW n w σ0 σ1 → GW p l e R s m args below meth c Q (xInv D cx ro A s TL SL t0 s0 σ1) (F0 m (pc + 3) ls (rest))) : GW p l e R s m args below meth c Q (xInv D cx ro A s TL SL t0 s0 σ) (F0 m pc ls (.int v :: va_rf r :: rest)) := by
  cases r with
  | none => cases hF
  | some q =>
    simp only [sxI] at hF
    split at hF
    · rename_i ht
      have hV := xV_pI (σ := σ) (ci := 14) (k := 4) (q := q) (v := v) 452 rfl rfl
      exact x_putV (ci := 14) (k := 4) (ty := .int) (τ := pI σ 452 q v) X rfl rfl q1439 (fun _ h => h) rfl rfl rfl rfl ht rfl rfl rfl hV.1 hV.2 d (kk _ hF (ha.pI hw))
    · cases hF
theorem xp_X15_15 {r : Option Nat} {v : Int32} {kf : XS → Option α} (X : XX p m c cc nL s args meth D cx ro A ret "TubBites$Pick") (hF : sxI σ 15 448 r v kf = some res) (hnm : meth.name = "<init>") (ha : agW n w σ0 σ) (hw : w.1.contains 448 = true) (d : decode cc pc = .ok (.putfield 15, 3)) (kk : ∀ σ1, kf σ1 = some res → agW n w σ0 σ1 → GW p l e R s m args below meth c Q (xInv D cx ro A s TL SL t0 s0 σ1) (F0 m (pc + 3) ls (rest))) : GW p l e R s m args below meth c Q (xInv D cx ro A s TL SL t0 s0 σ) (F0 m pc ls (.int v :: va_rf r :: rest)) := by
  cases r with
  | none => cases hF
  | some q =>
    simp only [sxI] at hF
    split at hF
    · rename_i ht
      have hV := xV_pI (σ := σ) (ci := 14) (k := 0) (q := q) (v := v) 448 rfl rfl
      exact x_putVF (ci := 14) (k := 0) (ty := .int) (τ := pI σ 448 q v) X hnm rfl rfl q1432 (fun _ h => h) rfl rfl rfl rfl rfl ht rfl rfl rfl hV.1 hV.2 d (kk _ hF (ha.pI hw))
    · cases hF
theorem xp_X15_18 {r : Option Nat} {v : Int32} {kf : XS → Option α} (X : XX p m c cc nL s args meth D cx ro A ret "TubBites$Pick") (hF : sxI σ 15 449 r v kf = some res) (hnm : meth.name = "<init>") (ha : agW n w σ0 σ) (hw : w.1.contains 449 = true) (d : decode cc pc = .ok (.putfield 18, 3)) (kk : ∀ σ1, kf σ1 = some res → agW n w σ0 σ1 → GW p l e R s m args below meth c Q (xInv D cx ro A s TL SL t0 s0 σ1) (F0 m (pc + 3) ls (rest))) : GW p l e R s m args below meth c Q (xInv D cx ro A s TL SL t0 s0 σ) (F0 m pc ls (.int v :: va_rf r :: rest)) := by
  cases r with
  | none => cases hF
  | some q =>
    simp only [sxI] at hF
    split at hF
    · rename_i ht
      have hV := xV_pI (σ := σ) (ci := 14) (k := 1) (q := q) (v := v) 449 rfl rfl
      exact x_putVF (ci := 14) (k := 1) (ty := .int) (τ := pI σ 449 q v) X hnm rfl rfl q1434 (fun _ h => h) rfl rfl rfl rfl rfl ht rfl rfl rfl hV.1 hV.2 d (kk _ hF (ha.pI hw))
    · cases hF
theorem xp_X15_21 {r : Option Nat} {v : Int32} {kf : XS → Option α} (X : XX p m c cc nL s args meth D cx ro A ret "TubBites$Pick") (hF : sxI σ 15 450 r v kf = some res) (hnm : meth.name = "<init>") (ha : agW n w σ0 σ) (hw : w.1.contains 450 = true) (d : decode cc pc = .ok (.putfield 21, 3)) (kk : ∀ σ1, kf σ1 = some res → agW n w σ0 σ1 → GW p l e R s m args below meth c Q (xInv D cx ro A s TL SL t0 s0 σ1) (F0 m (pc + 3) ls (rest))) : GW p l e R s m args below meth c Q (xInv D cx ro A s TL SL t0 s0 σ) (F0 m pc ls (.int v :: va_rf r :: rest)) := by
  cases r with
  | none => cases hF
  | some q =>
    simp only [sxI] at hF
    split at hF
    · rename_i ht
      have hV := xV_pI (σ := σ) (ci := 14) (k := 2) (q := q) (v := v) 450 rfl rfl
      exact x_putVF (ci := 14) (k := 2) (ty := .int) (τ := pI σ 450 q v) X hnm rfl rfl q1436 (fun _ h => h) rfl rfl rfl rfl rfl ht rfl rfl rfl hV.1 hV.2 d (kk _ hF (ha.pI hw))
    · cases hF
theorem xp_X15_24 {r : Option Nat} {v : Int32} {kf : XS → Option α} (X : XX p m c cc nL s args meth D cx ro A ret "TubBites$Pick") (hF : sxI σ 15 451 r v kf = some res) (hnm : meth.name = "<init>") (ha : agW n w σ0 σ) (hw : w.1.contains 451 = true) (d : decode cc pc = .ok (.putfield 24, 3)) (kk : ∀ σ1, kf σ1 = some res → agW n w σ0 σ1 → GW p l e R s m args below meth c Q (xInv D cx ro A s TL SL t0 s0 σ1) (F0 m (pc + 3) ls (rest))) : GW p l e R s m args below meth c Q (xInv D cx ro A s TL SL t0 s0 σ) (F0 m pc ls (.int v :: va_rf r :: rest)) := by
  cases r with
  | none => cases hF
  | some q =>
    simp only [sxI] at hF
    split at hF
    · rename_i ht
      have hV := xV_pI (σ := σ) (ci := 14) (k := 3) (q := q) (v := v) 451 rfl rfl
      exact x_putVF (ci := 14) (k := 3) (ty := .int) (τ := pI σ 451 q v) X hnm rfl rfl q1438 (fun _ h => h) rfl rfl rfl rfl rfl ht rfl rfl rfl hV.1 hV.2 d (kk _ hF (ha.pI hw))
    · cases hF
theorem xp_X16_20 {r : Option Nat} {v : Int32} {kf : XS → Option α} (X : XX p m c cc nL s args meth D cx ro A ret "TubBites$Free") (hF : sxI σ 13 395 r v kf = some res) (ha : agW n w σ0 σ) (hw : w.1.contains 395 = true) (d : decode cc pc = .ok (.putfield 20, 3)) (kk : ∀ σ1, kf σ1 = some res → agW n w σ0 σ1 → GW p l e R s m args below meth c Q (xInv D cx ro A s TL SL t0 s0 σ1) (F0 m (pc + 3) ls (rest))) : GW p l e R s m args below meth c Q (xInv D cx ro A s TL SL t0 s0 σ) (F0 m pc ls (.int v :: va_rf r :: rest)) := by
  cases r with
  | none => cases hF
  | some q =>
    simp only [sxI] at hF
    split at hF
    · rename_i ht
      have hV := xV_pI (σ := σ) (ci := 12) (k := 11) (q := q) (v := v) 395 rfl rfl
      exact x_putVN (ci := 12) (k := 11) (ty := .int) (τ := pI σ 395 q v) X rfl rfl (List.mem_of_getElem? (i := 64) rfl) (fun _ h => h) rfl rfl rfl rfl ht rfl rfl rfl hV.1 hV.2 d (kk _ hF (ha.pI hw))
    · cases hF
theorem xp_X16_34 {r : Option Nat} {v : Int32} {kf : XS → Option α} (X : XX p m c cc nL s args meth D cx ro A ret "TubBites$Free") (hF : sxI σ 13 393 r v kf = some res) (ha : agW n w σ0 σ) (hw : w.1.contains 393 = true) (d : decode cc pc = .ok (.putfield 34, 3)) (kk : ∀ σ1, kf σ1 = some res → agW n w σ0 σ1 → GW p l e R s m args below meth c Q (xInv D cx ro A s TL SL t0 s0 σ1) (F0 m (pc + 3) ls (rest))) : GW p l e R s m args below meth c Q (xInv D cx ro A s TL SL t0 s0 σ) (F0 m pc ls (.int v :: va_rf r :: rest)) := by
  cases r with
  | none => cases hF
  | some q =>
    simp only [sxI] at hF
    split at hF
    · rename_i ht
      have hV := xV_pI (σ := σ) (ci := 12) (k := 9) (q := q) (v := v) 393 rfl rfl
      exact x_putVN (ci := 12) (k := 9) (ty := .int) (τ := pI σ 393 q v) X rfl rfl (List.mem_of_getElem? (i := 63) rfl) (fun _ h => h) rfl rfl rfl rfl ht rfl rfl rfl hV.1 hV.2 d (kk _ hF (ha.pI hw))
    · cases hF
theorem xp_X2_7 {r : Option Nat} {v : Option Nat} {kf : XS → Option α} (X : XX p m c cc nL s args meth D cx ro A ret "TubBites$Told") (hF : sxR σ 4 96 r v kf = some res) (hnm : meth.name = "<init>") (ha : agW n w σ0 σ) (hw : w.2.1.contains 96 = true) (d : decode cc pc = .ok (.putfield 7, 3)) (kk : ∀ σ1, kf σ1 = some res → agW n w σ0 σ1 → GW p l e R s m args below meth c Q (xInv D cx ro A s TL SL t0 s0 σ1) (F0 m (pc + 3) ls (rest))) : GW p l e R s m args below meth c Q (xInv D cx ro A s TL SL t0 s0 σ) (F0 m pc ls (va_rf v :: va_rf r :: rest)) := by
  cases r with
  | none => cases hF
  | some q =>
    simp only [sxR] at hF
    split at hF
    · rename_i ht
      have hV := xV_pR (σ := σ) (ci := 3) (k := 0) (q := q) (v := v) 96 rfl rfl
      exact x_putVF (ci := 3) (k := 0) (ty := (.array .int)) (τ := pR σ 96 q v) X hnm rfl rfl q224 (fun _ h => h) rfl rfl rfl (by cases v <;> rfl) (by cases v <;> rfl) ht rfl rfl rfl hV.1 hV.2 d (kk _ hF (ha.pR hw))
    · cases hF
theorem xp_X21_7 {r : Option Nat} {v : Int32} {kf : XS → Option α} (X : XX p m c cc nL s args meth D cx ro A ret "TubBites$Try") (hF : sxI σ 13 394 r v kf = some res) (ha : agW n w σ0 σ) (hw : w.1.contains 394 = true) (d : decode cc pc = .ok (.putfield 7, 3)) (kk : ∀ σ1, kf σ1 = some res → agW n w σ0 σ1 → GW p l e R s m args below meth c Q (xInv D cx ro A s TL SL t0 s0 σ1) (F0 m (pc + 3) ls (rest))) : GW p l e R s m args below meth c Q (xInv D cx ro A s TL SL t0 s0 σ) (F0 m pc ls (.int v :: va_rf r :: rest)) := by
  cases r with
  | none => cases hF
  | some q =>
    simp only [sxI] at hF
    split at hF
    · rename_i ht
      have hV := xV_pI (σ := σ) (ci := 12) (k := 10) (q := q) (v := v) 394 rfl rfl
      exact x_putVN (ci := 12) (k := 10) (ty := .int) (τ := pI σ 394 q v) X rfl rfl (List.mem_of_getElem? (i := 71) rfl) (fun _ h => h) rfl rfl rfl rfl ht rfl rfl rfl hV.1 hV.2 d (kk _ hF (ha.pI hw))
    · cases hF
theorem xp_X3_7 {r : Option Nat} {v : Option Nat} {kf : XS → Option α} (X : XX p m c cc nL s args meth D cx ro A ret "TubBites$Kept") (hF : sxR σ 5 128 r v kf = some res) (ha : agW n w σ0 σ) (hw : w.2.1.contains 128 = true) (d : decode cc pc = .ok (.putfield 7, 3)) (kk : ∀ σ1, kf σ1 = some res → agW n w σ0 σ1 → GW p l e R s m args below meth c Q (xInv D cx ro A s TL SL t0 s0 σ1) (F0 m (pc + 3) ls (rest))) : GW p l e R s m args below meth c Q (xInv D cx ro A s TL SL t0 s0 σ) (F0 m pc ls (va_rf v :: va_rf r :: rest)) := by
  cases r with
  | none => cases hF
  | some q =>
    simp only [sxR] at hF
    split at hF
    · rename_i ht
      have hV := xV_pR (σ := σ) (ci := 4) (k := 0) (q := q) (v := v) 128 rfl rfl
      exact x_putV (ci := 4) (k := 0) (ty := (.array .int)) (τ := pR σ 128 q v) X rfl rfl q299 (fun _ h => h) rfl rfl (by cases v <;> rfl) (by cases v <;> rfl) ht rfl rfl rfl hV.1 hV.2 d (kk _ hF (ha.pR hw))
    · cases hF
theorem xp_X7_7 {r : Option Nat} {v : Int64} {kf : XS → Option α} (X : XX p m c cc nL s args meth D cx ro A ret "TubBites$Rule") (hF : sxL σ 8 224 r v kf = some res) (hnm : meth.name = "<init>") (ha : agW n w σ0 σ) (hw : w.2.2.1.contains 224 = true) (d : decode cc pc = .ok (.putfield 7, 3)) (kk : ∀ σ1, kf σ1 = some res → agW n w σ0 σ1 → GW p l e R s m args below meth c Q (xInv D cx ro A s TL SL t0 s0 σ1) (F0 m (pc + 3) ls (rest))) : GW p l e R s m args below meth c Q (xInv D cx ro A s TL SL t0 s0 σ) (F0 m pc ls (.long v :: va_rf r :: rest)) := by
  cases r with
  | none => cases hF
  | some q =>
    simp only [sxL] at hF
    split at hF
    · rename_i ht
      have hV := xV_pL (σ := σ) (ci := 7) (k := 0) (q := q) (v := v) 224 rfl rfl
      exact x_putVF (ci := 7) (k := 0) (ty := .long) (τ := pL σ 224 q v) X hnm rfl rfl q737 (fun _ h => h) rfl rfl rfl rfl rfl ht rfl rfl rfl hV.1 hV.2 d (kk _ hF (ha.pL hw))
    · cases hF
theorem xp_X7_13 {r : Option Nat} {v : Option Nat} {kf : XS → Option α} (X : XX p m c cc nL s args meth D cx ro A ret "TubBites$Rule") (hF : sxR σ 8 225 r v kf = some res) (hnm : meth.name = "<init>") (ha : agW n w σ0 σ) (hw : w.2.1.contains 225 = true) (d : decode cc pc = .ok (.putfield 13, 3)) (kk : ∀ σ1, kf σ1 = some res → agW n w σ0 σ1 → GW p l e R s m args below meth c Q (xInv D cx ro A s TL SL t0 s0 σ1) (F0 m (pc + 3) ls (rest))) : GW p l e R s m args below meth c Q (xInv D cx ro A s TL SL t0 s0 σ) (F0 m pc ls (va_rf v :: va_rf r :: rest)) := by
  cases r with
  | none => cases hF
  | some q =>
    simp only [sxR] at hF
    split at hF
    · rename_i ht
      have hV := xV_pR (σ := σ) (ci := 7) (k := 1) (q := q) (v := v) 225 rfl rfl
      exact x_putVF (ci := 7) (k := 1) (ty := (.object "TubBites$Part")) (τ := pR σ 225 q v) X hnm rfl rfl q739 (fun _ h => h) rfl rfl rfl (by cases v <;> rfl) (by cases v <;> rfl) ht rfl rfl rfl hV.1 hV.2 d (kk _ hF (ha.pR hw))
    · cases hF
theorem xp_X9_7 {r : Option Nat} {v : Option Nat} {kf : XS → Option α} (X : XX p m c cc nL s args meth D cx ro A ret "TubBites$Not") (hF : sxR σ 9 256 r v kf = some res) (hnm : meth.name = "<init>") (ha : agW n w σ0 σ) (hw : w.2.1.contains 256 = true) (d : decode cc pc = .ok (.putfield 7, 3)) (kk : ∀ σ1, kf σ1 = some res → agW n w σ0 σ1 → GW p l e R s m args below meth c Q (xInv D cx ro A s TL SL t0 s0 σ1) (F0 m (pc + 3) ls (rest))) : GW p l e R s m args below meth c Q (xInv D cx ro A s TL SL t0 s0 σ) (F0 m pc ls (va_rf v :: va_rf r :: rest)) := by
  cases r with
  | none => cases hF
  | some q =>
    simp only [sxR] at hF
    split at hF
    · rename_i ht
      have hV := xV_pR (σ := σ) (ci := 8) (k := 0) (q := q) (v := v) 256 rfl rfl
      exact x_putVF (ci := 8) (k := 0) (ty := (.object "TubBites$Part")) (τ := pR σ 256 q v) X hnm rfl rfl q673 (fun _ h => h) rfl rfl rfl (by cases v <;> rfl) (by cases v <;> rfl) ht rfl rfl rfl hV.1 hV.2 d (kk _ hF (ha.pR hw))
    · cases hF
end XF
theorem lb_31 : (Int8.ofInt (31)).toInt32 = 31 := by decide
theorem lb_36 : (Int8.ofInt (36)).toInt32 = 36 := by decide
theorem lb_53 : (Int8.ofInt (53)).toInt32 = 53 := by decide
theorem ls_1230 : (Int16.ofInt (1230)).toInt32 = 1230 := by decide
