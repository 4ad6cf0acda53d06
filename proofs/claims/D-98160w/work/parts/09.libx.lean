/-! THE COMPONENT'S STORE: tags and lengths by address; fields by number and address; arrays by address and place; the heap's size; elements made -/
abbrev XS : Type := (Nat → Nat) × (Nat → Nat) × (Nat → Nat → Int32) × (Nat → Nat → Option Nat) × (Nat → Nat → Int64) × (Nat → Nat → Int32) × (Nat → Nat → Option Nat) × Nat × Nat
abbrev XW : Type := List Nat × List Nat × List Nat × Bool × Bool
def tg (σ : XS) (q : Nat) : Nat := σ.1 q
def ln (σ : XS) (q : Nat) : Nat := σ.2.1 q
def fI (σ : XS) (g q : Nat) : Int32 := σ.2.2.1 g q
def fR (σ : XS) (g q : Nat) : Option Nat := σ.2.2.2.1 g q
def fL (σ : XS) (g q : Nat) : Int64 := σ.2.2.2.2.1 g q
def aI (σ : XS) (q i : Nat) : Int32 := σ.2.2.2.2.2.1 q i
def aR (σ : XS) (q i : Nat) : Option Nat := σ.2.2.2.2.2.2.1 q i
def tp (σ : XS) : Nat := σ.2.2.2.2.2.2.2.1
def sn (σ : XS) : Nat := σ.2.2.2.2.2.2.2.2
def up2 {α : Type} (f : Nat → Nat → α) (a b : Nat) (x : α) : Nat → Nat → α := fun i j => if i = a ∧ j = b then x else f i j
def pI (σ : XS) (g q : Nat) (v : Int32) : XS := (σ.1, σ.2.1, up2 σ.2.2.1 g q v, σ.2.2.2)
def pR (σ : XS) (g q : Nat) (v : Option Nat) : XS := (σ.1, σ.2.1, σ.2.2.1, up2 σ.2.2.2.1 g q v, σ.2.2.2.2)
def pL (σ : XS) (g q : Nat) (v : Int64) : XS := (σ.1, σ.2.1, σ.2.2.1, σ.2.2.2.1, up2 σ.2.2.2.2.1 g q v, σ.2.2.2.2.2)
def pA (σ : XS) (q i : Nat) (v : Int32) : XS := (σ.1, σ.2.1, σ.2.2.1, σ.2.2.2.1, σ.2.2.2.2.1, up2 σ.2.2.2.2.2.1 q i v, σ.2.2.2.2.2.2)
def pQ (σ : XS) (q i : Nat) (v : Option Nat) : XS := (σ.1, σ.2.1, σ.2.2.1, σ.2.2.2.1, σ.2.2.2.2.1, σ.2.2.2.2.2.1, up2 σ.2.2.2.2.2.2.1 q i v, σ.2.2.2.2.2.2.2)
/-- a new object or array at the heap's end, of the tag t and n places in all; as an array it has m places -/
def nO (σ : XS) (t m n : Nat) : XS := (up σ.1 (tp σ) t, up σ.2.1 (tp σ) m, (fun g q => if q = tp σ then 0 else σ.2.2.1 g q), (fun g q => if q = tp σ then none else σ.2.2.2.1 g q), (fun g q => if q = tp σ then 0 else σ.2.2.2.2.1 g q), (fun q i => if q = tp σ then 0 else σ.2.2.2.2.2.1 q i), (fun q i => if q = tp σ then none else σ.2.2.2.2.2.2.1 q i), tp σ + 1, sn σ + n)
/-- τ has the named columns, the rest is σ's: for a method that makes nothing -/
def mxX (w : XW) (σ τ : XS) : XS := (σ.1, σ.2.1, (fun g => if g ∈ w.1 then τ.2.2.1 g else σ.2.2.1 g), (fun g => if g ∈ w.2.1 then τ.2.2.2.1 g else σ.2.2.2.1 g), (fun g => if g ∈ w.2.2.1 then τ.2.2.2.2.1 g else σ.2.2.2.2.1 g), (if w.2.2.2.1 = true then τ.2.2.2.2.2.1 else σ.2.2.2.2.2.1), (if w.2.2.2.2 = true then τ.2.2.2.2.2.2.1 else σ.2.2.2.2.2.2.1), tp σ, sn σ)
def agX (w : XW) (σ τ : XS) : Prop := τ.1 = σ.1 ∧ τ.2.1 = σ.2.1 ∧ (∀ g, g ∉ w.1 → τ.2.2.1 g = σ.2.2.1 g) ∧ (∀ g, g ∉ w.2.1 → τ.2.2.2.1 g = σ.2.2.2.1 g) ∧ (∀ g, g ∉ w.2.2.1 → τ.2.2.2.2.1 g = σ.2.2.2.2.1 g) ∧ (w.2.2.2.1 = false → τ.2.2.2.2.2.1 = σ.2.2.2.2.2.1) ∧ (w.2.2.2.2 = false → τ.2.2.2.2.2.2.1 = σ.2.2.2.2.2.2.1) ∧ tp τ = tp σ ∧ sn τ = sn σ
/-- the same for a method that makes cells: of the old cells the columns not named stay -/
def mxN (w : XW) (σ τ : XS) : XS := ((fun q => if q < tp σ then σ.1 q else τ.1 q), (fun q => if q < tp σ then σ.2.1 q else τ.2.1 q), (fun g q => if g ∈ w.1 ∨ ¬ q < tp σ then τ.2.2.1 g q else σ.2.2.1 g q), (fun g q => if g ∈ w.2.1 ∨ ¬ q < tp σ then τ.2.2.2.1 g q else σ.2.2.2.1 g q), (fun g q => if g ∈ w.2.2.1 ∨ ¬ q < tp σ then τ.2.2.2.2.1 g q else σ.2.2.2.2.1 g q), (fun q => if w.2.2.2.1 = true ∨ ¬ q < tp σ then τ.2.2.2.2.2.1 q else σ.2.2.2.2.2.1 q), (fun q => if w.2.2.2.2 = true ∨ ¬ q < tp σ then τ.2.2.2.2.2.2.1 q else σ.2.2.2.2.2.2.1 q), tp τ, sn τ)
def agN (w : XW) (σ τ : XS) : Prop := tp σ ≤ tp τ ∧ sn σ ≤ sn τ ∧ (∀ q, q < tp σ → τ.1 q = σ.1 q) ∧ (∀ q, q < tp σ → τ.2.1 q = σ.2.1 q) ∧ (∀ g q, g ∉ w.1 → q < tp σ → τ.2.2.1 g q = σ.2.2.1 g q) ∧ (∀ g q, g ∉ w.2.1 → q < tp σ → τ.2.2.2.1 g q = σ.2.2.2.1 g q) ∧ (∀ g q, g ∉ w.2.2.1 → q < tp σ → τ.2.2.2.2.1 g q = σ.2.2.2.2.1 g q) ∧ (∀ q, w.2.2.2.1 = false → q < tp σ → τ.2.2.2.2.2.1 q = σ.2.2.2.2.2.1 q) ∧ (∀ q, w.2.2.2.2 = false → q < tp σ → τ.2.2.2.2.2.2.1 q = σ.2.2.2.2.2.2.1 q)
theorem mxX_ag {w : XW} {σ τ : XS} (h : agX w σ τ) : mxX w σ τ = τ := by
  obtain ⟨h1, h2, h3, h4, h5, h6, h7, h8, h9⟩ := h
  refine Prod.ext h1.symm (Prod.ext h2.symm (Prod.ext (funext fun g => ?_) (Prod.ext (funext fun g => ?_) (Prod.ext (funext fun g => ?_) (Prod.ext ?_ (Prod.ext ?_ (Prod.ext h8.symm h9.symm)))))))
  · show (if g ∈ w.1 then τ.2.2.1 g else σ.2.2.1 g) = τ.2.2.1 g
    by_cases h : g ∈ w.1
    · rw [if_pos h]
    · rw [if_neg h, h3 g h]
  · show (if g ∈ w.2.1 then τ.2.2.2.1 g else σ.2.2.2.1 g) = τ.2.2.2.1 g
    by_cases h : g ∈ w.2.1
    · rw [if_pos h]
    · rw [if_neg h, h4 g h]
  · show (if g ∈ w.2.2.1 then τ.2.2.2.2.1 g else σ.2.2.2.2.1 g) = τ.2.2.2.2.1 g
    by_cases h : g ∈ w.2.2.1
    · rw [if_pos h]
    · rw [if_neg h, h5 g h]
  · show (if w.2.2.2.1 = true then τ.2.2.2.2.2.1 else σ.2.2.2.2.2.1) = τ.2.2.2.2.2.1
    cases hw : w.2.2.2.1 with
    | true => rw [if_pos rfl]
    | false => rw [if_neg (by decide), h6 hw]
  · show (if w.2.2.2.2 = true then τ.2.2.2.2.2.2.1 else σ.2.2.2.2.2.2.1) = τ.2.2.2.2.2.2.1
    cases hw : w.2.2.2.2 with
    | true => rw [if_pos rfl]
    | false => rw [if_neg (by decide), h7 hw]
theorem mxN_ag {w : XW} {σ τ : XS} (h : agN w σ τ) : mxN w σ τ = τ := by
  obtain ⟨h8, h9, h1, h2, h3, h4, h5, h6, h7⟩ := h
  refine Prod.ext (funext fun q => ?_) (Prod.ext (funext fun q => ?_) (Prod.ext (funext fun g => funext fun q => ?_) (Prod.ext (funext fun g => funext fun q => ?_) (Prod.ext (funext fun g => funext fun q => ?_) (Prod.ext (funext fun q => ?_) (Prod.ext (funext fun q => ?_) rfl))))))
  · show (if q < tp σ then σ.1 q else τ.1 q) = τ.1 q
    by_cases h : q < tp σ
    · rw [if_pos h, h1 q h]
    · rw [if_neg h]
  · show (if q < tp σ then σ.2.1 q else τ.2.1 q) = τ.2.1 q
    by_cases h : q < tp σ
    · rw [if_pos h, h2 q h]
    · rw [if_neg h]
  · show (if g ∈ w.1 ∨ ¬ q < tp σ then τ.2.2.1 g q else σ.2.2.1 g q) = τ.2.2.1 g q
    by_cases h : g ∈ w.1 ∨ ¬ q < tp σ
    · rw [if_pos h]
    · rw [if_neg h, h3 g q (fun e => h (Or.inl e)) (Decidable.not_not.mp fun e => h (Or.inr e))]
  · show (if g ∈ w.2.1 ∨ ¬ q < tp σ then τ.2.2.2.1 g q else σ.2.2.2.1 g q) = τ.2.2.2.1 g q
    by_cases h : g ∈ w.2.1 ∨ ¬ q < tp σ
    · rw [if_pos h]
    · rw [if_neg h, h4 g q (fun e => h (Or.inl e)) (Decidable.not_not.mp fun e => h (Or.inr e))]
  · show (if g ∈ w.2.2.1 ∨ ¬ q < tp σ then τ.2.2.2.2.1 g q else σ.2.2.2.2.1 g q) = τ.2.2.2.2.1 g q
    by_cases h : g ∈ w.2.2.1 ∨ ¬ q < tp σ
    · rw [if_pos h]
    · rw [if_neg h, h5 g q (fun e => h (Or.inl e)) (Decidable.not_not.mp fun e => h (Or.inr e))]
  · show (if w.2.2.2.1 = true ∨ ¬ q < tp σ then τ.2.2.2.2.2.1 q else σ.2.2.2.2.2.1 q) = τ.2.2.2.2.2.1 q
    by_cases h : w.2.2.2.1 = true ∨ ¬ q < tp σ
    · rw [if_pos h]
    · rw [if_neg h, h6 q (Bool.eq_false_iff.mpr fun e => h (Or.inl e)) (Decidable.not_not.mp fun e => h (Or.inr e))]
  · show (if w.2.2.2.2 = true ∨ ¬ q < tp σ then τ.2.2.2.2.2.2.1 q else σ.2.2.2.2.2.2.1 q) = τ.2.2.2.2.2.2.1 q
    by_cases h : w.2.2.2.2 = true ∨ ¬ q < tp σ
    · rw [if_pos h]
    · rw [if_neg h, h7 q (Bool.eq_false_iff.mpr fun e => h (Or.inl e)) (Decidable.not_not.mp fun e => h (Or.inr e))]
theorem agX.rf {w : XW} {σ : XS} : agX w σ σ := ⟨rfl, rfl, fun _ _ => rfl, fun _ _ => rfl, fun _ _ => rfl, fun _ => rfl, fun _ => rfl, rfl, rfl⟩
theorem agN.rf {w : XW} {σ : XS} : agN w σ σ := ⟨Nat.le_refl _, Nat.le_refl _, fun _ _ => rfl, fun _ _ => rfl, fun _ _ _ _ => rfl, fun _ _ _ _ => rfl, fun _ _ _ _ => rfl, fun _ _ _ => rfl, fun _ _ _ => rfl⟩
def xsub (v w : XW) : Bool := v.1.all (fun k => w.1.contains k) && v.2.1.all (fun k => w.2.1.contains k) && v.2.2.1.all (fun k => w.2.2.1.contains k) && (!v.2.2.2.1 || w.2.2.2.1) && (!v.2.2.2.2 || w.2.2.2.2)
theorem bsub_f {a b : Bool} (h : (!a || b) = true) (hb : b = false) : a = false := by
  subst hb
  cases a with
  | true => cases h
  | false => rfl
theorem agX.tr {v w : XW} {σ τ ρ : XS} (h : agX w σ τ) (k : agX v τ ρ) (hs : xsub v w = true) : agX w σ ρ := by
  simp only [xsub, Bool.and_eq_true] at hs
  obtain ⟨⟨⟨⟨s1, s2⟩, s3⟩, s4⟩, s5⟩ := hs
  obtain ⟨h1, h2, h3, h4, h5, h6, h7, h8, h9⟩ := h
  obtain ⟨k1, k2, k3, k4, k5, k6, k7, k8, k9⟩ := k
  exact ⟨k1.trans h1, k2.trans h2, fun g hg => (k3 g (wsub_nm s1 hg)).trans (h3 g hg), fun g hg => (k4 g (wsub_nm s2 hg)).trans (h4 g hg), fun g hg => (k5 g (wsub_nm s3 hg)).trans (h5 g hg), fun e => (k6 (bsub_f s4 e)).trans (h6 e), fun e => (k7 (bsub_f s5 e)).trans (h7 e), k8.trans h8, k9.trans h9⟩
theorem agX.n {w : XW} {σ τ : XS} (h : agX w σ τ) : agN w σ τ := by
  obtain ⟨h1, h2, h3, h4, h5, h6, h7, h8, h9⟩ := h
  exact ⟨Nat.le_of_eq h8.symm, Nat.le_of_eq h9.symm, fun q _ => by rw [h1], fun q _ => by rw [h2], fun g q hg _ => by rw [h3 g hg], fun g q hg _ => by rw [h4 g hg], fun g q hg _ => by rw [h5 g hg], fun q e _ => by rw [h6 e], fun q e _ => by rw [h7 e]⟩
theorem agN.tr {v w : XW} {σ τ ρ : XS} (h : agN w σ τ) (k : agN v τ ρ) (hs : xsub v w = true) : agN w σ ρ := by
  simp only [xsub, Bool.and_eq_true] at hs
  obtain ⟨⟨⟨⟨s1, s2⟩, s3⟩, s4⟩, s5⟩ := hs
  obtain ⟨h8, h9, h1, h2, h3, h4, h5, h6, h7⟩ := h
  obtain ⟨k8, k9, k1, k2, k3, k4, k5, k6, k7⟩ := k
  exact ⟨Nat.le_trans h8 k8, Nat.le_trans h9 k9, fun q hq => (k1 q (Nat.lt_of_lt_of_le hq h8)).trans (h1 q hq), fun q hq => (k2 q (Nat.lt_of_lt_of_le hq h8)).trans (h2 q hq), fun g q hg hq => (k3 g q (wsub_nm s1 hg) (Nat.lt_of_lt_of_le hq h8)).trans (h3 g q hg hq), fun g q hg hq => (k4 g q (wsub_nm s2 hg) (Nat.lt_of_lt_of_le hq h8)).trans (h4 g q hg hq), fun g q hg hq => (k5 g q (wsub_nm s3 hg) (Nat.lt_of_lt_of_le hq h8)).trans (h5 g q hg hq), fun q e hq => (k6 q (bsub_f s4 e) (Nat.lt_of_lt_of_le hq h8)).trans (h6 q e hq), fun q e hq => (k7 q (bsub_f s5 e) (Nat.lt_of_lt_of_le hq h8)).trans (h7 q e hq)⟩
/-- both kinds of agreement in one: n says whether the method may make cells -/
def agW (n : Bool) (w : XW) (σ τ : XS) : Prop := match n with
  | true => agN w σ τ
  | false => agX w σ τ
def mxW (n : Bool) (w : XW) (σ τ : XS) : XS := match n with
  | true => mxN w σ τ
  | false => mxX w σ τ
theorem agW.rf {n : Bool} {w : XW} {σ : XS} : agW n w σ σ := by
  cases n with
  | true => exact agN.rf
  | false => exact agX.rf
theorem mxW_ag {n : Bool} {w : XW} {σ τ : XS} (h : agW n w σ τ) : mxW n w σ τ = τ := by
  cases n with
  | true => exact mxN_ag h
  | false => exact mxX_ag h
theorem agW.tr {m n : Bool} {v w : XW} {σ τ ρ : XS} (h : agW n w σ τ) (k : agW m v τ ρ) (hs : (xsub v w && (!m || n)) = true) : agW n w σ ρ := by
  rw [Bool.and_eq_true] at hs
  cases n with
  | true =>
    cases m with
    | true => exact agN.tr h k hs.1
    | false => exact agN.tr h (agX.n k) hs.1
  | false =>
    cases m with
    | true => exact absurd hs.2 (by decide)
    | false => exact agX.tr h k hs.1
theorem agW.le {n : Bool} {w : XW} {σ τ : XS} (h : agW n w σ τ) : tp σ ≤ tp τ ∧ sn σ ≤ sn τ := by
  cases n with
  | true => exact ⟨h.1, h.2.1⟩
  | false => exact ⟨h.n.1, h.n.2.1⟩
theorem up2_ne {α : Type} {f : Nat → Nat → α} {a b g : Nat} {x : α} (h : g ≠ a) : up2 f a b x g = f g := funext fun q => if_neg (fun e => h e.1)
theorem agX.pI {w : XW} {σ τ : XS} (h : agX w σ τ) {g q : Nat} {v : Int32} (hk : w.1.contains g = true) : agX w σ (pI τ g q v) :=
  ⟨h.1, h.2.1, fun j hj => (up2_ne (con_nm hk hj)).trans (h.2.2.1 j hj), h.2.2.2⟩
theorem agX.pR {w : XW} {σ τ : XS} (h : agX w σ τ) {g q : Nat} {v : Option Nat} (hk : w.2.1.contains g = true) : agX w σ (pR τ g q v) :=
  ⟨h.1, h.2.1, h.2.2.1, fun j hj => (up2_ne (con_nm hk hj)).trans (h.2.2.2.1 j hj), h.2.2.2.2⟩
theorem agX.pL {w : XW} {σ τ : XS} (h : agX w σ τ) {g q : Nat} {v : Int64} (hk : w.2.2.1.contains g = true) : agX w σ (pL τ g q v) :=
  ⟨h.1, h.2.1, h.2.2.1, h.2.2.2.1, fun j hj => (up2_ne (con_nm hk hj)).trans (h.2.2.2.2.1 j hj), h.2.2.2.2.2⟩
theorem agX.pA {w : XW} {σ τ : XS} (h : agX w σ τ) {q i : Nat} {v : Int32} (hk : w.2.2.2.1 = true) : agX w σ (pA τ q i v) :=
  ⟨h.1, h.2.1, h.2.2.1, h.2.2.2.1, h.2.2.2.2.1, fun e => (by rw [hk] at e; cases e), h.2.2.2.2.2.2.1, h.2.2.2.2.2.2.2.1, h.2.2.2.2.2.2.2.2⟩
theorem agX.pQ {w : XW} {σ τ : XS} (h : agX w σ τ) {q i : Nat} {v : Option Nat} (hk : w.2.2.2.2 = true) : agX w σ (pQ τ q i v) :=
  ⟨h.1, h.2.1, h.2.2.1, h.2.2.2.1, h.2.2.2.2.1, h.2.2.2.2.2.1, fun e => (by rw [hk] at e; cases e), h.2.2.2.2.2.2.2.1, h.2.2.2.2.2.2.2.2⟩
theorem agW.w1 {n : Bool} {w : XW} {σ τ ρ : XS} (h : agW n w σ τ) (k : agX w τ ρ) : agW n w σ ρ := by
  have hs : xsub w w = true := by
    simp [xsub]
  exact agW.tr (m := false) h k (by rw [hs]; rfl)
theorem agW.pI {n : Bool} {w : XW} {σ τ : XS} (h : agW n w σ τ) {g q : Nat} {v : Int32} (hk : w.1.contains g = true) : agW n w σ (pI τ g q v) := h.w1 (agX.rf.pI hk)
theorem agW.pR {n : Bool} {w : XW} {σ τ : XS} (h : agW n w σ τ) {g q : Nat} {v : Option Nat} (hk : w.2.1.contains g = true) : agW n w σ (pR τ g q v) := h.w1 (agX.rf.pR hk)
theorem agW.pL {n : Bool} {w : XW} {σ τ : XS} (h : agW n w σ τ) {g q : Nat} {v : Int64} (hk : w.2.2.1.contains g = true) : agW n w σ (pL τ g q v) := h.w1 (agX.rf.pL hk)
theorem agW.pA {n : Bool} {w : XW} {σ τ : XS} (h : agW n w σ τ) {q i : Nat} {v : Int32} (hk : w.2.2.2.1 = true) : agW n w σ (pA τ q i v) := h.w1 (agX.rf.pA hk)
theorem agW.pQ {n : Bool} {w : XW} {σ τ : XS} (h : agW n w σ τ) {q i : Nat} {v : Option Nat} (hk : w.2.2.2.2 = true) : agW n w σ (pQ τ q i v) := h.w1 (agX.rf.pQ hk)
theorem agW.mk9 {w : XW} {σ τ : XS} (h : agW true w σ τ) {t m k : Nat} : agW true w σ (nO τ t m k) := by
  have ne : ∀ q, q < tp τ → ¬ q = tp τ := fun q hq => Nat.ne_of_lt hq
  have k1 : agN w τ (nO τ t m k) := ⟨Nat.le_succ _, Nat.le_add_right _ _, fun q hq => if_neg (ne q hq), fun q hq => if_neg (ne q hq), fun g q _ hq => if_neg (ne q hq), fun g q _ hq => if_neg (ne q hq), fun g q _ hq => if_neg (ne q hq), fun q _ hq => funext fun i => if_neg (ne q hq), fun q _ hq => funext fun i => if_neg (ne q hq)⟩
  have hs : xsub w w = true := by simp [xsub]
  exact agW.tr (m := true) h k1 (by rw [hs]; rfl)
theorem rf_cat (r : Option Nat) : (va_rf r).category = 1 := by cases r <;> rfl
theorem lkn_rf {l : List (Nat × Option Value)} {j : Nat} {r : Option Nat} (h : lkp l j = some (va_rf r)) : lkn l (j + 1) = true := by
  simp only [lkn, h, rf_cat]
  rfl
theorem cat_le (v : Value) : v.category ≤ 2 := by cases v <;> simp [Value.category]
theorem cat_sum (st : List Value) : (st.map fun v => v.category).sum ≤ 2 * st.length := by
  induction st with
  | nil => exact Nat.le_refl _
  | cons v t ih =>
    have := cat_le v
    simp only [List.map_cons, List.sum_cons, List.length_cons]
    omega
theorem cat_room {st : List Value} (h : Nat.ble st.length 4 = true) : (st.map fun v => v.category).sum ≤ 8 := by
  have := cat_sum st
  have := Nat.le_of_ble_eq_true h
  omega
section GRowsX
variable {p : Program} {l : Launch} {e : Env} {R : Room} {s : State} {m : MethodId} {args : Array Value} {below : List Frame} {meth : Method} {c : Code} {cc : ByteArray} {nL : Nat} {own : String} {D : va_G} {cl : List vw_C} {tys : List (ClassId × FieldType)} {ret : Option FieldType} {Q : State → Prop} {I : Heap → List Loc → Nat → Nat → Prop} {ls : Array Slot} {lq0 : List (Nat × Option Value)} {pc : Nat} {rest : List Value}
theorem g_aloadR_n (K : GX p m c cc nL s args meth D cl tys ret own) {kk : Fin 4} {i : Nat} {r : Option Nat} (h : lq ls nL lq0) (d : decode cc pc = .ok (.aload_n kk, 1)) (hi : (kk : Nat) = i) (hl : lkp lq0 i = some (va_rf r)) (k : GW p l e R s m args below meth c Q I (F0 m (pc + 1) ls (va_rf r :: rest))) : GW p l e R s m args below meth c Q I (F0 m pc ls (rest)) := by
  intro H locs cs sl hI
  cases r with
  | none => exact lv_aload_nN K.hx K.hb d hi (lq_at h hl) (k H locs cs sl hI)
  | some x => exact lv_aload_n K.hx K.hb d hi (lq_at h hl) (k H locs cs sl hI)
theorem g_aloadR (K : GX p m c cc nL s args meth D cl tys ret own) {i : Nat} {r : Option Nat} (h : lq ls nL lq0) (d : decode cc pc = .ok (.aload i, 2)) (hl : lkp lq0 i = some (va_rf r)) (k : GW p l e R s m args below meth c Q I (F0 m (pc + 2) ls (va_rf r :: rest))) : GW p l e R s m args below meth c Q I (F0 m pc ls (rest)) := by
  intro H locs cs sl hI
  cases r with
  | none => exact lv_aloadN K.hx K.hb d (lq_at h hl) (k H locs cs sl hI)
  | some x => exact lv_aload K.hx K.hb d (lq_at h hl) (k H locs cs sl hI)
theorem g_astoreR_n (K : GX p m c cc nL s args meth D cl tys ret own) {kk : Fin 4} {i : Nat} {r : Option Nat} (h : lq ls nL lq0) (d : decode cc pc = .ok (.astore_n kk, 1)) (hi : (kk : Nat) = i) (hn : Nat.blt i nL = true) (hk : lkn lq0 i = true) (k : ∀ ls : Array Slot, lq ls nL ((i, some (va_rf r)) :: lq0) → GW p l e R s m args below meth c Q I (F0 m (pc + 1) ls (rest))) : GW p l e R s m args below meth c Q I (F0 m pc ls (va_rf r :: rest)) := by
  intro H locs cs sl hI
  cases r with
  | none => exact lv_astore_nN K.hx K.hb d hi (lq_has h) (Nat.le_of_ble_eq_true hn) rfl (fun ls' h' => k ls' (lq_st1 h hk h') H locs cs sl hI)
  | some x => exact lv_astore_n K.hx K.hb d hi (lq_has h) (Nat.le_of_ble_eq_true hn) rfl (fun ls' h' => k ls' (lq_st1 h hk h') H locs cs sl hI)
theorem g_astoreR (K : GX p m c cc nL s args meth D cl tys ret own) {i : Nat} {r : Option Nat} (h : lq ls nL lq0) (d : decode cc pc = .ok (.astore i, 2)) (hn : Nat.blt i nL = true) (hk : lkn lq0 i = true) (k : ∀ ls : Array Slot, lq ls nL ((i, some (va_rf r)) :: lq0) → GW p l e R s m args below meth c Q I (F0 m (pc + 2) ls (rest))) : GW p l e R s m args below meth c Q I (F0 m pc ls (va_rf r :: rest)) := by
  intro H locs cs sl hI
  cases r with
  | none => exact lv_astoreN K.hx K.hb d (lq_has h) (Nat.le_of_ble_eq_true hn) rfl (fun ls' h' => k ls' (lq_st1 h hk h') H locs cs sl hI)
  | some x => exact lv_astore K.hx K.hb d (lq_has h) (Nat.le_of_ble_eq_true hn) rfl (fun ls' h' => k ls' (lq_st1 h hk h') H locs cs sl hI)
theorem g_aconst (K : GX p m c cc nL s args meth D cl tys ret own) (d : decode cc pc = .ok (.aconst_null, 1)) (k : GW p l e R s m args below meth c Q I (F0 m (pc + 1) ls (va_rf none :: rest))) : GW p l e R s m args below meth c Q I (F0 m pc ls (rest)) := fun H locs cs sl hI => lv_null K.hx K.hb d (k H locs cs sl hI)
theorem g_ifnull (K : GX p m c cc nL s args meth D cl tys ret own) {α : Type} {r9 : Option Nat} {off : Int} {tgt : Nat} {a b : Option α} {r : α} {hd : Decidable (r9 = none)} (hF : (if r9 = none then a else b) = some r) (d : decode cc pc = .ok (.ifnull off, 3)) (ht : (pc : Int) + off = (tgt : Int)) (kt : a = some r → GW p l e R s m args below meth c Q I (F0 m tgt ls (rest))) (kf : b = some r → GW p l e R s m args below meth c Q I (F0 m (pc + 3) ls (rest))) : GW p l e R s m args below meth c Q I (F0 m pc ls (va_rf r9 :: rest)) := by
  intro H locs cs sl hI
  cases r9 with
  | none => exact lv_ifnullN K.hx K.hb d ht (kt (if_t rfl hF) H locs cs sl hI)
  | some x => exact lv_ifnull K.hx K.hb d (kf (if_f (fun h => by cases h) hF) H locs cs sl hI)
theorem g_ifnonnull (K : GX p m c cc nL s args meth D cl tys ret own) {α : Type} {r9 : Option Nat} {off : Int} {tgt : Nat} {a b : Option α} {r : α} {hd : Decidable (r9 = none)} (hF : (if r9 = none then b else a) = some r) (d : decode cc pc = .ok (.ifnonnull off, 3)) (ht : (pc : Int) + off = (tgt : Int)) (kt : a = some r → GW p l e R s m args below meth c Q I (F0 m tgt ls (rest))) (kf : b = some r → GW p l e R s m args below meth c Q I (F0 m (pc + 3) ls (rest))) : GW p l e R s m args below meth c Q I (F0 m pc ls (va_rf r9 :: rest)) := by
  intro H locs cs sl hI
  cases r9 with
  | none => exact lv_ifnonnullN K.hx K.hb d (kf (if_t rfl hF) H locs cs sl hI)
  | some x => exact lv_ifnonnull K.hx K.hb d ht (kt (if_f (fun h => by cases h) hF) H locs cs sl hI)
theorem g_acmp_eq (K : GX p m c cc nL s args meth D cl tys ret own) {α : Type} {rx ry : Option Nat} {off : Int} {tgt : Nat} {a b : Option α} {r : α} {hd : Decidable (rx = ry)} (hF : (if rx = ry then a else b) = some r) (d : decode cc pc = .ok (.if_acmp .eq off, 3)) (ht : (pc : Int) + off = (tgt : Int)) (kt : a = some r → GW p l e R s m args below meth c Q I (F0 m tgt ls (rest))) (kf : b = some r → GW p l e R s m args below meth c Q I (F0 m (pc + 3) ls (rest))) : GW p l e R s m args below meth c Q I (F0 m pc ls (va_rf ry :: va_rf rx :: rest)) := fun H locs cs sl hI => lv_acmp_eq K.hx K.hb d ht (fun hc => kt (if_t hc hF) H locs cs sl hI) (fun hc => kf (if_f hc hF) H locs cs sl hI)
theorem g_acmp_ne (K : GX p m c cc nL s args meth D cl tys ret own) {α : Type} {rx ry : Option Nat} {off : Int} {tgt : Nat} {a b : Option α} {r : α} {hd : Decidable (rx = ry)} (hF : (if rx = ry then b else a) = some r) (d : decode cc pc = .ok (.if_acmp .ne off, 3)) (ht : (pc : Int) + off = (tgt : Int)) (kt : a = some r → GW p l e R s m args below meth c Q I (F0 m tgt ls (rest))) (kf : b = some r → GW p l e R s m args below meth c Q I (F0 m (pc + 3) ls (rest))) : GW p l e R s m args below meth c Q I (F0 m pc ls (va_rf ry :: va_rf rx :: rest)) := fun H locs cs sl hI => lv_acmp_ne K.hx K.hb d ht (fun hc => kt (if_f hc hF) H locs cs sl hI) (fun hc => kf (if_t hc hF) H locs cs sl hI)
end GRowsX
def kxs : List (List Nat) := [[2, 2, 0, 0, 0, 0, 2, 2, 0, 0, 2, 2, 0, 2, 2, 2], [0, 0, 0, 0, 0, 0, 0, 0, 0, 2, 2, 2, 2, 2], [0, 2, 0], [2], [2], [2, 0, 2, 0, 0, 0, 0, 1, 0, 0], [2, 2, 2, 2, 2, 0, 0, 0], [1, 2], [2], [0], [0], [0, 2, 2], [1, 0, 0, 0, 0, 0, 0, 0, 0, 0, 0, 0], [1, 0, 0, 0, 0, 0, 0, 0, 0, 0, 2], [0, 0, 0, 0, 0]]
def kx (ci k : Nat) : Nat := (kxs.getD ci []).getD k 0
def kdef (k : Nat) : Value := match k with
  | 0 => .int 0
  | 1 => .long 0
  | _ => .null
def clX : List vw_C := [(RX0, TX0, 16), (RX1, TX1, 14), (RJ2, TJ2, 3), (RX2, TX2, 1), (RX3, TX3, 1), (RX5, TX5, 10), (RX6, TX6, 8), (RX7, TX7, 2), (RX9, TX9, 1), (RX10, TX10, 1), (RX11, TX11, 1), (RX12, TX12, 3), (RX13, TX13, 12), (RX14, TX14, 11), (RX15, TX15, 5)]
theorem clX_ok : ∀ (ci : Nat) (r : vw_C), clX[ci]? = some r → (∀ w ∈ u_ws r.1 r.2.1 r.2.2, w ∈ lw_all) ∧ (∃ ty : Nat → FieldType, (∀ k, k < r.2.2 → parseFieldDescriptor (r.2.1 k).2.2.1 = some (ty k)) ∧ ∀ k, k < r.2.2 → defaultValue (ty k) = kdef (kx ci k)) ∧ (∀ a, a < r.2.2 → ∀ b, b < r.2.2 → a ≠ b → (r.2.1 a).2.1 ≠ (r.2.1 b).2.1) := by
  intro ci r h
  match ci, h with
  | 0, h => cases h; exact ⟨fun w h => in_X0 w h, ⟨tyX0, tyX0_ok, by decide +kernel⟩, nmX0⟩
  | 1, h => cases h; exact ⟨fun w h => in_X1 w h, ⟨tyX1, tyX1_ok, by decide +kernel⟩, nmX1⟩
  | 2, h => cases h; exact ⟨fun w h => in_J2 w h, ⟨tyJ2, tyJ2_ok, by decide +kernel⟩, nmJ2⟩
  | 3, h => cases h; exact ⟨fun w h => in_X2 w h, ⟨tyX2, tyX2_ok, by decide +kernel⟩, nmX2⟩
  | 4, h => cases h; exact ⟨fun w h => in_X3 w h, ⟨tyX3, tyX3_ok, by decide +kernel⟩, nmX3⟩
  | 5, h => cases h; exact ⟨fun w h => in_X5 w h, ⟨tyX5, tyX5_ok, by decide +kernel⟩, nmX5⟩
  | 6, h => cases h; exact ⟨fun w h => in_X6 w h, ⟨tyX6, tyX6_ok, by decide +kernel⟩, nmX6⟩
  | 7, h => cases h; exact ⟨fun w h => in_X7 w h, ⟨tyX7, tyX7_ok, by decide +kernel⟩, nmX7⟩
  | 8, h => cases h; exact ⟨fun w h => in_X9 w h, ⟨tyX9, tyX9_ok, by decide +kernel⟩, nmX9⟩
  | 9, h => cases h; exact ⟨fun w h => in_X10 w h, ⟨tyX10, tyX10_ok, by decide +kernel⟩, nmX10⟩
  | 10, h => cases h; exact ⟨fun w h => in_X11 w h, ⟨tyX11, tyX11_ok, by decide +kernel⟩, nmX11⟩
  | 11, h => cases h; exact ⟨fun w h => in_X12 w h, ⟨tyX12, tyX12_ok, by decide +kernel⟩, nmX12⟩
  | 12, h => cases h; exact ⟨fun w h => in_X13 w h, ⟨tyX13, tyX13_ok, by decide +kernel⟩, nmX13⟩
  | 13, h => cases h; exact ⟨fun w h => in_X14 w h, ⟨tyX14, tyX14_ok, by decide +kernel⟩, nmX14⟩
  | 14, h => cases h; exact ⟨fun w h => in_X15 w h, ⟨tyX15, tyX15_ok, by decide +kernel⟩, nmX15⟩
  | n + 15, h => simp [clX] at h
def xV (σ : XS) (ci q k : Nat) : Value := match kx ci k with
  | 0 => .int (fI σ (32 * ci + k) q)
  | 1 => .long (fL σ (32 * ci + k) q)
  | _ => va_rf (fR σ (32 * ci + k) q)
def xC (σ : XS) (t q : Nat) : vp_A := (ln σ q, if t < 2 then .inl (aI σ q) else .inr (.inr (.inr (.inr (aR σ q)))))
def roC (t : Nat) : String := match t with
  | 1 => "java/lang/Object"
  | 2 => "java/lang/String"
  | _ => "TubBites$Try"
def tryN (k : Nat) : String := match k with
  | 0 => "TubBites$Free"
  | 1 => "TubBites$Stalked"
  | 2 => "TubBites$Walled"
  | 3 => "TubBites$Grounded"
  | _ => "TubBites$Leaned"
def xHR (D : va_G) (cx ro : Nat → Nat) (A : Nat → Prop) (U : State) (σ : XS) (H : Heap) : Prop :=
  H.size = tp σ ∧ (∀ q ci, tg σ q = ci + 1 → ci < 15 → (∃ r, clX[ci]? = some r ∧ t_OB q (D.1 ci) r.2.2 (D.2 ci) H (xV σ ci q)) ∧ A q) ∧
  (∀ q t, tg σ q = 100 + t → t < 5 → H[q]? = some (vp_cell (cx t) (xC σ t q)) ∧ A q) ∧
  (∀ q t, tg σ q = 110 + t → t < 4 → ∃ cell : Cell, H[q]? = some cell ∧ U.isArrayOf cell (.object (roC t)) ∧ cell.vm ≠ .unknown ∧ cell.slots.size = ln σ q ∧ ∀ i, i < ln σ q → cell.slots[i]? = some (va_rf (aR σ q i))) ∧
  (∀ q k, tg σ q = 50 + k → k < 5 → ∃ cell : Cell, H[q]? = some cell ∧ cell.vm.isStatics = false ∧ U.vm.findClass (tryN k) = some cell.cls) ∧
  (∀ q i, tg σ q = 60 + i → i < 26 → q = ro (10 + i)) ∧ ∀ q, tp σ ≤ q → A q
def tysX (cx : Nat → Nat) : List (ClassId × FieldType) := [(cx 0, .int), (cx 1, .byte), (cx 2, .object "java/lang/Object"), (cx 3, .object "TubBites$Part"), (cx 4, .object "TubBites$Kept")]
def nestX : List Cond := [(Cond.declares ({ cls := "java/lang/Object", name := "getClass", desc := "()Ljava/lang/Class;" } : MethodName)),
  (Cond.declares ({ cls := "java/lang/Throwable", name := "<init>", desc := "()V" } : MethodName)),
  (Cond.declares ({ cls := "java/lang/Throwable", name := "<init>", desc := "(Ljava/lang/String;)V" } : MethodName)),
  (Cond.declares ({ cls := "java/lang/Exception", name := "<init>", desc := "()V" } : MethodName)),
  (Cond.declares ({ cls := "java/lang/Exception", name := "<init>", desc := "(Ljava/lang/String;)V" } : MethodName)),
  (Cond.methodLinkNest "TubBites" (11 : Nat) ({ cls := "TubBites$Water", name := "<init>", desc := "()V" } : MethodName) "TubBites"),
  (Cond.fieldLinkNest "TubBites" (276 : Nat) "TubBites$Water" "across" "I" "TubBites"),
  (Cond.fieldLinkNest "TubBites" (279 : Nat) "TubBites$Water" "up" "I" "TubBites"),
  (Cond.fieldLinkNest "TubBites" (369 : Nat) "TubBites$Water" "seed" "I" "TubBites"),
  (Cond.fieldLinkNest "TubBites" (372 : Nat) "TubBites$Water" "units" "I" "TubBites"),
  (Cond.fieldLinkNest "TubBites" (97 : Nat) "TubBites$Water" "rules" "Ljava/util/ArrayList;" "TubBites"),
  (Cond.fieldLinkNest "TubBites" (87 : Nat) "TubBites$Water" "apples" "Ljava/util/ArrayList;" "TubBites"),
  (Cond.fieldLinkNest "TubBites" (94 : Nat) "TubBites$Water" "bobbers" "Ljava/util/ArrayList;" "TubBites"),
  (Cond.fieldLinkNest "TubBites" (65 : Nat) "TubBites$Kept" "all" "[I" "TubBites"),
  (Cond.fieldLinkNest "TubBites" (135 : Nat) "TubBites$Wrong" "kind" "I" "TubBites"),
  (Cond.fieldLinkNest "TubBites" (138 : Nat) "TubBites$Wrong" "place" "I" "TubBites"),
  (Cond.fieldLinkNest "TubBites" (327 : Nat) "TubBites$Apple" "coin" "I" "TubBites"),
  (Cond.fieldLinkNest "TubBites" (147 : Nat) "TubBites$Apple" "x" "I" "TubBites"),
  (Cond.fieldLinkNest "TubBites" (150 : Nat) "TubBites$Apple" "y" "I" "TubBites"),
  (Cond.fieldLinkNest "TubBites" (153 : Nat) "TubBites$Apple" "by" "I" "TubBites"),
  (Cond.fieldLinkNest "TubBites" (156 : Nat) "TubBites$Apple" "missed" "I" "TubBites"),
  (Cond.fieldLinkNest "TubBites" (159 : Nat) "TubBites$Apple" "size" "I" "TubBites"),
  (Cond.fieldLinkNest "TubBites" (274 : Nat) "TubBites$Bobber" "x" "I" "TubBites"),
  (Cond.fieldLinkNest "TubBites" (275 : Nat) "TubBites$Bobber" "y" "I" "TubBites"),
  (Cond.fieldLinkNest "TubBites" (249 : Nat) "TubBites$Bobber" "allBreath" "I" "TubBites"),
  (Cond.fieldLinkNest "TubBites" (109 : Nat) "TubBites$Bobber" "rule" "I" "TubBites"),
  (Cond.fieldLinkNest "TubBites" (164 : Nat) "TubBites$Bobber" "breath" "I" "TubBites"),
  (Cond.fieldLinkNest "TubBites" (167 : Nat) "TubBites$Bobber" "got" "I" "TubBites"),
  (Cond.fieldLinkNest "TubBites" (170 : Nat) "TubBites$Bobber" "seconds" "I" "TubBites"),
  (Cond.fieldLinkNest "TubBites" (268 : Nat) "TubBites$Bobber" "records" "[I" "TubBites"),
  (Cond.fieldLinkNest "TubBites" (342 : Nat) "TubBites$Pick" "bobber" "I" "TubBites"),
  (Cond.fieldLinkNest "TubBites" (345 : Nat) "TubBites$Pick" "set" "I" "TubBites"),
  (Cond.fieldLinkNest "TubBites" (352 : Nat) "TubBites$Pick" "taken" "I" "TubBites"),
  (Cond.fieldLinkNest "TubBites" (338 : Nat) "TubBites$Pick" "untold" "I" "TubBites"),
  (Cond.methodLinkNest "TubBites$Water" (36 : Nat) ({ cls := "TubBites$Told", name := "<init>", desc := "()V" } : MethodName) "TubBites"),
  (Cond.fieldLinkNest "TubBites$Water" (118 : Nat) "TubBites$Told" "its" "[I" "TubBites"),
  (Cond.fieldLinkNest "TubBites$Water" (180 : Nat) "TubBites$Rule" "part" "LTubBites$Part;" "TubBites"),
  (Cond.fieldLinkNest "TubBites$Water" (124 : Nat) "TubBites$Apple" "soft" "I" "TubBites"),
  (Cond.fieldLinkNest "TubBites$Water" (127 : Nat) "TubBites$Apple" "hasStalk" "Z" "TubBites"),
  (Cond.fieldLinkNest "TubBites$Water" (76 : Nat) "TubBites$Apple" "x" "I" "TubBites"),
  (Cond.fieldLinkNest "TubBites$Water" (79 : Nat) "TubBites$Apple" "y" "I" "TubBites"),
  (Cond.fieldLinkNest "TubBites$Water" (73 : Nat) "TubBites$Apple" "by" "I" "TubBites"),
  (Cond.fieldLinkNest "TubBites$Water" (138 : Nat) "TubBites$Apple" "missed" "I" "TubBites"),
  (Cond.fieldLinkNest "TubBites$Water" (122 : Nat) "TubBites$Apple" "size" "I" "TubBites"),
  (Cond.fieldLinkNest "TubBites$Water" (94 : Nat) "TubBites$Bobber" "x" "I" "TubBites"),
  (Cond.fieldLinkNest "TubBites$Water" (101 : Nat) "TubBites$Bobber" "y" "I" "TubBites"),
  (Cond.fieldLinkNest "TubBites$Water" (162 : Nat) "TubBites$Bobber" "reach" "I" "TubBites"),
  (Cond.fieldLinkNest "TubBites$Water" (212 : Nat) "TubBites$Bobber" "allBreath" "I" "TubBites"),
  (Cond.fieldLinkNest "TubBites$Water" (141 : Nat) "TubBites$Bobber" "mouth" "I" "TubBites"),
  (Cond.fieldLinkNest "TubBites$Water" (144 : Nat) "TubBites$Bobber" "breath" "I" "TubBites"),
  (Cond.fieldLinkNest "TubBites$Water" (206 : Nat) "TubBites$Bobber" "got" "I" "TubBites"),
  (Cond.fieldLinkNest "TubBites$Water" (194 : Nat) "TubBites$Bobber" "seconds" "I" "TubBites"),
  (Cond.fieldLinkNest "TubBites$Water" (203 : Nat) "TubBites$Bobber" "records" "[I" "TubBites"),
  (Cond.fieldLinkNest "TubBites$Water" (165 : Nat) "TubBites" "TRIES" "[LTubBites$Try;" "TubBites"),
  (Cond.methodLinkNest "TubBites$Water" (44 : Nat) ({ cls := "TubBites", name := "isIn", desc := "(III)Z" } : MethodName) "TubBites"),
  (Cond.methodLinkNest "TubBites$Numeral" (1 : Nat) ({ cls := "TubBites$Part", name := "<init>", desc := "()V" } : MethodName) "TubBites"),
  (Cond.fieldLinkNest "TubBites$Named" (13 : Nat) "TubBites$Told" "its" "[I" "TubBites"),
  (Cond.methodLinkNest "TubBites$Named" (1 : Nat) ({ cls := "TubBites$Part", name := "<init>", desc := "()V" } : MethodName) "TubBites"),
  (Cond.methodLinkNest "TubBites$Two" (1 : Nat) ({ cls := "TubBites$Part", name := "<init>", desc := "()V" } : MethodName) "TubBites"),
  (Cond.fieldLinkNest "TubBites$Bobber" (32 : Nat) "TubBites$Apple" "x" "I" "TubBites"),
  (Cond.fieldLinkNest "TubBites$Bobber" (44 : Nat) "TubBites$Apple" "y" "I" "TubBites"),
  (Cond.fieldLinkNest "TubBites$Free" (15 : Nat) "TubBites$Water" "bite" "I" "TubBites"),
  (Cond.fieldLinkNest "TubBites$Free" (9 : Nat) "TubBites$Apple" "soft" "I" "TubBites"),
  (Cond.fieldLinkNest "TubBites$Free" (34 : Nat) "TubBites$Apple" "by" "I" "TubBites"),
  (Cond.fieldLinkNest "TubBites$Free" (20 : Nat) "TubBites$Apple" "size" "I" "TubBites"),
  (Cond.fieldLinkNest "TubBites$Free" (23 : Nat) "TubBites$Bobber" "mouth" "I" "TubBites"),
  (Cond.fieldLinkNest "TubBites$Leaned" (16 : Nat) "TubBites$Apple" "x" "I" "TubBites"),
  (Cond.fieldLinkNest "TubBites$Leaned" (22 : Nat) "TubBites$Apple" "y" "I" "TubBites"),
  (Cond.fieldLinkNest "TubBites$Stalked" (7 : Nat) "TubBites$Apple" "hasStalk" "Z" "TubBites"),
  (Cond.fieldLinkNest "TubBites$Walled" (7 : Nat) "TubBites$Apple" "x" "I" "TubBites"),
  (Cond.fieldLinkNest "TubBites$Walled" (13 : Nat) "TubBites$Apple" "y" "I" "TubBites"),
  (Cond.fieldLinkNest "TubBites$Try" (7 : Nat) "TubBites$Apple" "missed" "I" "TubBites"),
  (Cond.declares ({ cls := "TubBites$Try", name := "breath", desc := "()I" } : MethodName)),
  (Cond.declares ({ cls := "TubBites$Try", name := "seconds", desc := "()I" } : MethodName)),
  (Cond.fieldLinkNest "TubBites$Reader" (134 : Nat) "TubBites$Water" "across" "I" "TubBites"),
  (Cond.fieldLinkNest "TubBites$Reader" (143 : Nat) "TubBites$Water" "up" "I" "TubBites"),
  (Cond.fieldLinkNest "TubBites$Reader" (317 : Nat) "TubBites$Water" "draw" "I" "TubBites"),
  (Cond.fieldLinkNest "TubBites$Reader" (283 : Nat) "TubBites$Water" "units" "I" "TubBites"),
  (Cond.fieldLinkNest "TubBites$Reader" (319 : Nat) "TubBites$Water" "bite" "I" "TubBites"),
  (Cond.fieldLinkNest "TubBites$Reader" (130 : Nat) "TubBites$Water" "isTold" "Z" "TubBites"),
  (Cond.fieldLinkNest "TubBites$Reader" (298 : Nat) "TubBites$Water" "isDraw" "Z" "TubBites"),
  (Cond.fieldLinkNest "TubBites$Reader" (303 : Nat) "TubBites$Water" "isBite" "Z" "TubBites"),
  (Cond.fieldLinkNest "TubBites$Reader" (149 : Nat) "TubBites$Water" "odds" "[LTubBites$Part;" "TubBites"),
  (Cond.fieldLinkNest "TubBites$Reader" (103 : Nat) "TubBites$Water" "rules" "Ljava/util/ArrayList;" "TubBites"),
  (Cond.fieldLinkNest "TubBites$Reader" (118 : Nat) "TubBites$Water" "apples" "Ljava/util/ArrayList;" "TubBites"),
  (Cond.fieldLinkNest "TubBites$Reader" (124 : Nat) "TubBites$Water" "bobbers" "Ljava/util/ArrayList;" "TubBites"),
  (Cond.methodLinkNest "TubBites$Reader" (11 : Nat) ({ cls := "TubBites$Water", name := "<init>", desc := "()V" } : MethodName) "TubBites"),
  (Cond.fieldLinkNest "TubBites$Reader" (117 : Nat) "TubBites$Rule" "name" "J" "TubBites"),
  (Cond.fieldLinkNest "TubBites$Reader" (123 : Nat) "TubBites$Apple" "name" "J" "TubBites"),
  (Cond.fieldLinkNest "TubBites$Reader" (182 : Nat) "TubBites$Apple" "firstX" "I" "TubBites"),
  (Cond.fieldLinkNest "TubBites$Reader" (185 : Nat) "TubBites$Apple" "firstY" "I" "TubBites"),
  (Cond.fieldLinkNest "TubBites$Reader" (189 : Nat) "TubBites$Apple" "firstSize" "I" "TubBites"),
  (Cond.fieldLinkNest "TubBites$Reader" (194 : Nat) "TubBites$Apple" "soft" "I" "TubBites"),
  (Cond.fieldLinkNest "TubBites$Reader" (206 : Nat) "TubBites$Apple" "coin" "I" "TubBites"),
  (Cond.fieldLinkNest "TubBites$Reader" (201 : Nat) "TubBites$Apple" "hasStalk" "Z" "TubBites"),
  (Cond.fieldLinkNest "TubBites$Reader" (129 : Nat) "TubBites$Bobber" "name" "J" "TubBites"),
  (Cond.fieldLinkNest "TubBites$Reader" (212 : Nat) "TubBites$Bobber" "x" "I" "TubBites"),
  (Cond.fieldLinkNest "TubBites$Reader" (215 : Nat) "TubBites$Bobber" "y" "I" "TubBites"),
  (Cond.fieldLinkNest "TubBites$Reader" (220 : Nat) "TubBites$Bobber" "reach" "I" "TubBites"),
  (Cond.fieldLinkNest "TubBites$Reader" (224 : Nat) "TubBites$Bobber" "allBreath" "I" "TubBites"),
  (Cond.fieldLinkNest "TubBites$Reader" (229 : Nat) "TubBites$Bobber" "mouth" "I" "TubBites"),
  (Cond.fieldLinkNest "TubBites$Reader" (231 : Nat) "TubBites$Bobber" "rule" "I" "TubBites"),
  (Cond.declares ({ cls := "TubBites$Part", name := "of", desc := "(LTubBites$Told;)I" } : MethodName)),
  (Cond.methodLinkNest "TubBites$Not" (1 : Nat) ({ cls := "TubBites$Part", name := "<init>", desc := "()V" } : MethodName) "TubBites"),
  (Cond.castable "java/util/ArrayList" "java/lang/Object"),
  (Cond.castable "java/lang/String" "java/lang/Object"),
  (Cond.castable "java/lang/Throwable" "java/lang/Object"),
  (Cond.castable "TubBites" "java/lang/Object"),
  (Cond.castable "TubBites$Water" "java/lang/Object"),
  (Cond.castable "TubBites$Numeral" "java/lang/Object"),
  (Cond.castable "TubBites$Numeral" "TubBites$Part"),
  (Cond.castable "TubBites$Named" "java/lang/Object"),
  (Cond.castable "TubBites$Named" "TubBites$Part"),
  (Cond.castable "TubBites$Two" "java/lang/Object"),
  (Cond.castable "TubBites$Two" "TubBites$Part"),
  (Cond.castable "TubBites$Apple" "java/lang/Object"),
  (Cond.castable "TubBites$Bobber" "java/lang/Object"),
  (Cond.castable "TubBites$Pick" "java/lang/Object"),
  (Cond.castable "TubBites$Free" "java/lang/Object"),
  (Cond.castable "TubBites$Grounded" "java/lang/Object"),
  (Cond.castable "TubBites$Leaned" "java/lang/Object"),
  (Cond.castable "TubBites$Stalked" "java/lang/Object"),
  (Cond.castable "TubBites$Told" "java/lang/Object"),
  (Cond.castable "TubBites$Walled" "java/lang/Object"),
  (Cond.castable "TubBites$Try" "java/lang/Object"),
  (Cond.castable "TubBites$Kept" "java/lang/Object"),
  (Cond.castable "TubBites$Reader" "java/lang/Object"),
  (Cond.castable "TubBites$Wrong" "TubBites$Wrong"),
  (Cond.castable "TubBites$Wrong" "java/lang/Object"),
  (Cond.castable "TubBites$Rule" "java/lang/Object"),
  (Cond.castable "TubBites$Part" "java/lang/Object"),
  (Cond.castable "TubBites$Not" "java/lang/Object"),
  (Cond.castable "TubBites$Not" "TubBites$Part"),
  (Cond.castable "[B" "java/lang/Object"),
  (Cond.castable "[I" "java/lang/Object"),
  (Cond.castable "[J" "java/lang/Object"),
  (Cond.castable "[LTubBites$Kept;" "java/lang/Object"),
  (Cond.castable "[LTubBites$Part;" "java/lang/Object"),
  (Cond.castable "[LTubBites$Try;" "java/lang/Object"),
  (Cond.castable "[Ljava/lang/Object;" "java/lang/Object"),
  (Cond.castable "[Ljava/lang/String;" "java/lang/Object"),
  (Cond.castable "[Z" "java/lang/Object")]
def romS (ro : Nat → Nat) : List (String × String × String × Value) := [("TubBites", "TRIES", "[LTubBites$Try;", .ref (ro 0)), ("TubBites$Reader", "KEPT", "[Ljava/lang/String;", .ref (ro 1)), ("TubBites$Reader", "NAMED", "[Ljava/lang/String;", .ref (ro 2)), ("TubBites$Reader", "TRIED", "[Ljava/lang/String;", .ref (ro 3)), ("java/util/ArrayList", "DEFAULTCAPACITY_EMPTY_ELEMENTDATA", "[Ljava/lang/Object;", .ref (ro 4)), ("java/lang/String", "COMPACT_STRINGS", "Z", .int 1)]
def romQ : List (String × String × String) := [("jdk/internal/util/Preconditions", "SIOOBE_FORMATTER", "Ljava/util/function/BiFunction;"), ("java/lang/Throwable", "UNASSIGNED_STACK", "[Ljava/lang/StackTraceElement;"), ("java/lang/Throwable", "SUPPRESSED_SENTINEL", "Ljava/util/List;")]
def strT : List (Nat × String) := [(137, "by"), (181, "at"), (188, "size"), (192, "soft"), (196, "stalk"), (204, "coin"), (218, "reach"), (222, "breath"), (227, "mouth"), (246, "or"), (256, "and"), (258, "not"), (294, "tub"), (296, "draw"), (301, "bite"), (306, "rule"), (307, "apple"), (309, "bobber"), (311, "odds"), (335, "free"), (337, "wall"), (339, "ground"), (341, "far"), (343, "tries"), (345, "kind"), (347, "lean")]
def strL : List Nat := strT.map fun q => q.2.length
def strB : List (List Int32) := [[98, 121], [97, 116], [115, 105, 122, 101], [115, 111, 102, 116], [115, 116, 97, 108, 107], [99, 111, 105, 110], [114, 101, 97, 99, 104], [98, 114, 101, 97, 116, 104], [109, 111, 117, 116, 104], [111, 114], [97, 110, 100], [110, 111, 116], [116, 117, 98], [100, 114, 97, 119], [98, 105, 116, 101], [114, 117, 108, 101], [97, 112, 112, 108, 101], [98, 111, 98, 98, 101, 114], [111, 100, 100, 115], [102, 114, 101, 101], [119, 97, 108, 108], [103, 114, 111, 117, 110, 100], [102, 97, 114], [116, 114, 105, 101, 115], [107, 105, 110, 100], [108, 101, 97, 110]]
/-- what a start knows of the machine's tables and of what no method here writes -/
def xK (D : va_G) (cx ro : Nat → Nat) (A : Nat → Prop) (U : State) : Prop :=
  va_K D clX (tysX cx) U ∧ (∀ w ∈ nestX, va_Nw w U) ∧ (∀ q ∈ romS ro, va_Z q.1 q.2.1 q.2.2.1 q.2.2.2 A U U.heap) ∧ (∀ q ∈ romQ, va_Zq q.1 q.2.1 q.2.2 A U U.heap) ∧ vk_S 26 strL strB (fun i => ro (10 + i)) (fun i => ro (50 + i)) A U U.heap ∧ (∀ q ∈ strT.zipIdx, vk_R "TubBites$Reader" q.1.1 q.1.2 (ro (10 + q.2)) U) ∧ va_AO "java/lang/Object" U ∧ va_AO "TubBites$Part" U ∧ va_AO "TubBites$Kept" U
abbrev xRoom (d c n : Nat) : Room := { frames := d, cells := c, slots := n, locals := 60 * d }
def lim (TL SL : Nat) (σ : XS) : Prop := tp σ ≤ TL ∧ sn σ ≤ SL
def xQ (D : va_G) (cx ro : Nat → Nat) (A : Nat → Prop) (TL SL : Nat) (n : Bool) (w : XW) (σ : XS) (o : Option Value) (τ : XS) : Array Value → State → Outcome → State → Prop := fun _ st oc t => oc = .returned o ∧ xHR D cx ro A t τ t.heap ∧ agW n w σ τ ∧ lim TL SL τ ∧ va_F A st t
def xMet (l : Launch) (D : va_G) (cx ro : Nat → Nat) (A : Nat → Prop) (TL SL : Nat) (y : MethodName) (cc : ByteArray) (maxL : Nat) (ret : Option FieldType) (d : Nat) (n : Bool) (w : XW) (as : List Value) (σ : XS) (o : Option Value) (τ : XS) : Prop :=
  Met l y (ws_ y cc maxL ret) (xRoom d (TL - tp σ) (SL - sn σ)) (va_Pc as (fun U => xHR D cx ro A U σ U.heap ∧ xK D cx ro A U ∧ lim TL SL σ)) (xQ D cx ro A TL SL n w σ o τ) (tp τ - tp σ) (sn τ - sn σ) A
def xInv (D : va_G) (cx ro : Nat → Nat) (A : Nat → Prop) (U : State) (TL SL t0 s0 : Nat) (σ : XS) : Heap → List Loc → Nat → Nat → Prop := fun H locs cs sl => xHR D cx ro A U σ H ∧ va_S A U.heap H locs ∧ cs + t0 = tp σ ∧ sl + s0 = sn σ ∧ lim TL SL σ
def XX (p : Program) (m : MethodId) (c : Code) (cc : ByteArray) (nL : Nat) (s : State) (args : Array Value) (meth : Method) (D : va_G) (cx ro : Nat → Nat) (A : Nat → Prop) (ret : Option FieldType) (own : String) : Prop :=
  GX p m c cc nL s args meth D clX (tysX cx) ret own ∧ xK D cx ro A s
abbrev ZX (p : Program) (l : Launch) (e : Env) (d TL SL : Nat) (s : State) (m : MethodId) (args : Array Value) (below : List Frame) (meth : Method) (c : Code) (D : va_G) (cx ro : Nat → Nat) (A : Nat → Prop) (n : Bool) (w : XW) (σ0 : XS) (o : Option Value) (τ σ : XS) (g : JFrame) : Prop :=
  GW p l e (xRoom d (TL - tp σ0) (SL - sn σ0)) s m args below meth c (MQ below (xQ D cx ro A TL SL n w σ0 o τ) args s (tp τ - tp σ0) (sn τ - sn σ0) A) (xInv D cx ro A s TL SL (tp σ0) (sn σ0) σ) g
def nestK : Cond → Bool
  | .fieldLinkNest _ _ _ _ _ _ => true
  | .methodLinkNest _ _ _ _ => true
  | .castable _ _ => true
  | .declares _ => true
  | _ => false
theorem nest_k : nestX.all nestK = true := by decide +kernel
theorem nest_warm {s U : State} (hW : s.WarmedH U.vm) (w : Cond) (hw : w ∈ nestX) (h : va_Nw w s) : va_Nw w U := by
  have hk := List.all_eq_true.mp nest_k w hw
  cases w <;> first | exact va_Nw.warmF hW h | exact va_Nw.warmM hW h | exact va_Nw.warmC hW h | exact va_Nw.warmD hW h | exact absurd (show false = true from hk) (by decide)
theorem xHR.moved {D : va_G} {cx ro : Nat → Nat} {A : Nat → Prop} {u U : State} {σ : XS} {H : Heap} (hvm : u.vm.Alike U.vm) (h : xHR D cx ro A u σ H) : xHR D cx ro A U σ H := by
  obtain ⟨h1, h2, h3, h4, h5, h6, h7⟩ := h
  refine ⟨h1, h2, h3, fun q t hq ht => ?_, fun q k hq hk => ?_, h6, h7⟩
  · obtain ⟨cell, g1, g2, g3⟩ := h4 q t hq ht
    exact ⟨cell, g1, State.isArrayOf_alike hvm g2, g3⟩
  · obtain ⟨cell, g1, g2, g3⟩ := h5 q k hq hk
    exact ⟨cell, g1, g2, by rw [hvm.findClass]; exact g3⟩
theorem xK.moved {D : va_G} {cx ro : Nat → Nat} {A : Nat → Prop} {s U : State} (hW : s.WarmedH U.vm) (hq : ∀ a : Nat, a < s.heap.size → ¬ A a → U.heap[a]? = s.heap[a]?) (h : xK D cx ro A s) : xK D cx ro A U := by
  obtain ⟨h1, h2, h3, h4, h5, h6, h7, h8, h9⟩ := h
  have hvm := hW.alike
  refine ⟨va_K.moved hvm h1, fun w hw => ?_, fun q hm => va_Z.kept (va_Z.moved hvm (h3 q hm)) hq, fun q hm => va_Zq.kept (va_Zq.moved hvm (h4 q hm)) hq, vk_S.kept (vk_S.moved hvm h5) hq, fun q hm => vk_R.warm hW (h6 q hm), va_AO.moved hvm h7, va_AO.moved hvm h8, va_AO.moved hvm h9⟩
  exact nest_warm hW w hw (h2 w hw)
theorem nest_same {u U : State} (hvm : u.vm = U.vm) (w : Cond) (hw : w ∈ nestX) (h : va_Nw w u) : va_Nw w U := by
  have hk := List.all_eq_true.mp nest_k w hw
  cases w <;> first | exact va_Nw.same rfl hvm h | exact absurd (show false = true from hk) (by decide)
theorem x_blindK {D : va_G} {cx ro : Nat → Nat} {A : Nat → Prop} {U : State} {g : JFrame} {mk : MethodId} {a : Array Value} (h : xK D cx ro A U) : xK D cx ro A (U.calling g mk a) := by
  obtain ⟨h1, h2, h3, h4, h5, h6, h7, h8, h9⟩ := h
  have hvm : U.vm.Alike (U.calling g mk a).vm := Vm.Alike.refl U.vm
  exact ⟨va_K.moved hvm h1, fun w hw => nest_same (u := U) (U := U.calling g mk a) rfl w hw (h2 w hw), fun q hm => va_Z.moved hvm (h3 q hm), fun q hm => va_Zq.moved hvm (h4 q hm), vk_S.moved hvm h5, fun q hm => vk_R.same rfl (h6 q hm), va_AO.moved hvm h7, va_AO.moved hvm h8, va_AO.moved hvm h9⟩
theorem xK.start {D : va_G} {cx ro : Nat → Nat} {A : Nat → Prop} {s U : State} {H : Heap} {locs : List Loc} (hW : s.WarmedH U.vm) (hU : U.heap = H) (hS : va_S A s.heap H locs) (h : xK D cx ro A s) : xK D cx ro A U := h.moved hW (fun a h1 h2 => by rw [hU]; exact hS.2.1 a h1 h2)
def PreX (R rm : Room) (Pc : Array Value → State → Prop) : Pt → Array Value → Prop := fun A a => A.cells + rm.cells ≤ R.cells ∧ A.slots + rm.slots ≤ R.slots ∧ Pc a A.U
section XBack
variable {l : Launch} {R : Room} {p : Program} {e : Env} {below : List Frame} {s : State} {sargs : Array Value} {y : MethodName} {len W : Nat}
theorem x_backOf {ws : List Cond} {rm : Room} {Pc : Array Value → State → Prop} {Qc : Array Value → State → Outcome → State → Prop} {mc ms : Nat} {free : Addr → Prop} {bytes : ByteArray} {maxL : Nat} {ret : Option FieldType}
    (hM : Met l y ws rm Pc Qc mc ms free) (hblind : FrameBlind Pc)
    (hframes : rm.frames + 1 ≤ R.frames) (hlocals : W + (maxL + 11) + rm.locals ≤ R.locals)
    (hws : ∀ w ∈ ws, ∀ a' U, s.WarmedH U.vm → w.before a' U = true) (hcode : Cond.code y bytes maxL ret ∈ ws) (hinit : ∀ a' U, s.WarmedH U.vm → (Cond.initialized y.cls).before a' U = true) :
    Back l R p e below s sargs y len W (PreX R rm Pc) (PostOf Qc mc ms free) := by
  refine Back.of_free (S := headSpec ws rm) (P := Pc) (K := fun _ _ _ _ _ => True) (Q := fun a st o t => Qc a st o t ∧ ∃ L, FrameEnd st o t L mc ms ∧ ∀ q ∈ L, free q.base) (bytes := bytes) (maxL := maxL) (ret := ret)
    (E := fun a st o t L k n => k = mc ∧ n = ms ∧ ∀ q ∈ L, free q.base) hM hframes hlocals ?_ ?_ (fun _ _ _ _ _ _ _ _ _ => trivial) ?_ ?_
  · intro m meth c A a X hp
    exact ⟨atoms_intro fun w hw => hws w hw _ _ X.warmed, hws _ hcode _ _ X.warmed, hinit _ _ X.warmed, hp.1, hp.2.1⟩
  · intro m meth c A a g mk X hp
    exact hblind _ _ _ _ hp.2.2
  · intro a st o t ⟨hq, L, hF, hL⟩
    exact ⟨L, mc, ms, hF, rfl, rfl, hL⟩
  · intro m meth c A a g mk v t L k n X hp hq hF ⟨e1, e2, hL⟩
    subst e1; subst e2
    exact ⟨g, mk, t, L, rfl, rfl, hq.1, rfl, hL, rfl, rfl⟩
end XBack
section XRows
variable {p : Program} {l : Launch} {e : Env} {R : Room} {s : State} {m : MethodId} {args : Array Value} {below : List Frame} {meth : Method} {c : Code} {H : Heap} {locs : List Loc} {cells slots : Nat} {Q : State → Prop} {cc : ByteArray} {nL : Nat} {own : String} {D : va_G} {cx ro : Nat → Nat} {A : Nat → Prop} {ret : Option FieldType} {ls : Array Slot} {lq0 : List (Nat × Option Value)} {pc : Nat} {rest st : List Value} {n : Bool} {w : XW} {σ σ0 τ : XS} {o : Option Value} {TL SL t0 s0 : Nat}
theorem x_blind {as : List Value} : FrameBlind (va_Pc as (fun U => xHR D cx ro A U σ U.heap ∧ xK D cx ro A U ∧ lim TL SL σ)) := fun a U g mk q => by
  obtain ⟨q0, q1, qK, q2⟩ := q
  exact ⟨q0, xHR.moved (u := U) (U := U.calling g mk a) (Vm.Alike.refl U.vm) q1, x_blindK qK, q2⟩
/-- what a call through an object is, from a contract -/
theorem x_runV {y : MethodName} {bytes : ByteArray} {maxL mc ms nY index : Nat} {ret2 : Option FieldType} {rm : Room} {Pc : Array Value → State → Prop} {Qc : Array Value → State → Outcome → State → Prop} {free : Addr → Prop} {C : String} {b : Addr} {As : List Value} {g : JFrame}
    (S : CallFix p m c cc nL s args lw_all own) (hM : Met l y (ws_ y bytes maxL ret2) rm Pc Qc mc ms free) (hlink : Cond.methodLink own index y ∈ lw_all) (c1 : Cond.instanceMethod y ∈ lw_all) (c2 : Cond.selects C y y ∈ lw_all) (c3 : Cond.initialized y.cls ∈ lw_all) (c4 : Cond.code y bytes maxL ret2 ∈ lw_all) (c5 : y.cls ≠ "java/lang/invoke/MethodHandle" ∧ y.cls ≠ "java/lang/invoke/VarHandle" ∧ (parseMethodDescriptor y.desc).map (fun d => d.parameters.length) = some nY)
    (hR : rm.frames + 1 ≤ R.frames ∧ 8 + (maxL + 11) + rm.locals ≤ R.locals) (hp : PreV s H C b Pc As)
    (hg : g.method = m) (hn : As.length = nY) (hsize : g.locals.size = nL) (hstack : g.stack = As.reverse ++ .ref b :: rest) (hW : 2 * g.monitorRoom + (rest.map fun v => v.category).sum ≤ 8) (hdg : decode cc g.pc = .ok (.invokevirtual index, 3)) (hf : cells + rm.cells ≤ R.cells ∧ slots + rm.slots ≤ R.slots) :
    va_Run p l e R s m args below meth c H locs cells slots mc ms g rest (Qc (Value.ref b :: As).toArray) (free) := by
  obtain ⟨hx, hb, hml, ho, hts⟩ := S
  have hK : Back l R p e below s args y 3 8 (PreX R rm Pc) (PostOf Qc mc ms free) := x_backOf (bytes := bytes) (maxL := maxL) (ret := ret2) hM hp.1 hR.1 hR.2 (pay_in hts (lw_meth c4)) List.mem_cons_self (fun a' U hW => word_at hW (Or.inl (by first | rfl | simp [Cond.onTables, Cond.keeps, Cond.steady])) (hts _ c3))
  obtain ⟨-, ⟨cellB, hcB, hoB, hclB⟩, hPc⟩ := hp
  have hlen : ∀ sig, parseMethodDescriptor y.desc = some sig → nY = sig.parameters.length := fun sig h => by
    have h2 := c5.2.2
    rw [h] at h2
    exact (Option.some.inj h2).symm
  intro T hT X
  obtain ⟨v, vm₁, ⟨U', l2, k2, s2⟩, hW₁, X', ⟨g', mk, t, L, e1, e2, hq, h1, hL, h2, h3⟩, st⟩ := callV X hx (C := C) (bytes := bytes) (maxL := maxL) (ret := ret2) ho (hts _ hlink) (hts _ c1) (hts _ c2) (hts _ c4) ⟨c5.1, c5.2.1⟩ hK (by rw [hT]; exact hcB) hoB hclB hg (hsize.trans hml.symm) (argsL := As) (rest := rest) (fun sig h => hn.trans (hlen sig h)) hstack hW (by rw [hb]; exact hdg)
    (fun vm₁ hW₁ => ⟨hf.1, hf.2, hPc (T.setVm vm₁) hT hW₁⟩)
  dsimp only [Pt.U, Pt.locs, Pt.cells, Pt.slots] at X' e1 e2 h1 h2 h3 st
  subst h1; subst h2; subst h3
  exact ⟨v, (T.setVm vm₁).calling g' mk (Value.ref b :: As).toArray, t, U', L, hT, X', hL, e1, e2, hq, st⟩
/-- the reads and writes of the functions that the walks follow -/
def gxI {α : Type} (σ : XS) (t g : Nat) (r : Option Nat) (k : Int32 → Option α) : Option α := match r with
  | none => none
  | some q => if tg σ q = t then k (fI σ g q) else none
def gxR {α : Type} (σ : XS) (t g : Nat) (r : Option Nat) (k : Option Nat → Option α) : Option α := match r with
  | none => none
  | some q => if tg σ q = t then k (fR σ g q) else none
def gxL {α : Type} (σ : XS) (t g : Nat) (r : Option Nat) (k : Int64 → Option α) : Option α := match r with
  | none => none
  | some q => if tg σ q = t then k (fL σ g q) else none
def sxI {α : Type} (σ : XS) (t g : Nat) (r : Option Nat) (v : Int32) (k : XS → Option α) : Option α := match r with
  | none => none
  | some q => if tg σ q = t then k (pI σ g q v) else none
def sxR {α : Type} (σ : XS) (t g : Nat) (r v : Option Nat) (k : XS → Option α) : Option α := match r with
  | none => none
  | some q => if tg σ q = t then k (pR σ g q v) else none
def sxL {α : Type} (σ : XS) (t g : Nat) (r : Option Nat) (v : Int64) (k : XS → Option α) : Option α := match r with
  | none => none
  | some q => if tg σ q = t then k (pL σ g q v) else none
/-- reads of int and byte arrays (t: 100, 101), of arrays of references, lengths -/
def rxA {α : Type} (σ : XS) (t : Nat) (r : Option Nat) (i : Int32) (k : Int32 → Option α) : Option α := match r with
  | none => none
  | some q => if tg σ q = t then (if inb i (ln σ q) = true then k (aI σ q i.toNatClampNeg) else none) else none
def qtag (t : Nat) : Bool := (Nat.ble 102 t && Nat.ble t 104) || (Nat.ble 111 t && Nat.ble t 113)
def rxQ {α : Type} (σ : XS) (r : Option Nat) (i : Int32) (k : Option Nat → Option α) : Option α := match r with
  | none => none
  | some q => if qtag (tg σ q) = true then (if inb i (ln σ q) = true then k (aR σ q i.toNatClampNeg) else none) else none
def atag (t : Nat) : Bool := (Nat.ble 100 t && Nat.ble t 104) || (Nat.ble 111 t && Nat.ble t 113)
def lxA {α : Type} (σ : XS) (r : Option Nat) (k : Int32 → Option α) : Option α := match r with
  | none => none
  | some q => if atag (tg σ q) = true then k (Int32.ofNat (ln σ q)) else none
def wxA {α : Type} (σ : XS) (t : Nat) (r : Option Nat) (i v : Int32) (k : XS → Option α) : Option α := match r with
  | none => none
  | some q => if tg σ q = t then (if inb i (ln σ q) = true then k (pA σ q i.toNatClampNeg v) else none) else none
/-- a reference may lie in an array of that tag -/
def okQ (σ : XS) (t : Nat) (v : Option Nat) : Bool := match v with
  | none => true
  | some x => match t with
    | 102 => Nat.ble 1 (tg σ x) && Nat.ble (tg σ x) 15
    | 103 => Nat.ble 9 (tg σ x) && Nat.ble (tg σ x) 12
    | 104 => Nat.beq (tg σ x) 5
    | _ => false
def wxQ {α : Type} (σ : XS) (r : Option Nat) (i : Int32) (v : Option Nat) (k : XS → Option α) : Option α := match r with
  | none => none
  | some q => if (Nat.ble 102 (tg σ q) && Nat.ble (tg σ q) 104 && okQ σ (tg σ q) v) = true then (if inb i (ln σ q) = true then k (pQ σ q i.toNatClampNeg v) else none) else none
/-- new cells: within the room -/
def nwO {α : Type} (TL SL : Nat) (σ : XS) (t n : Nat) (k : Option Nat → XS → Option α) : Option α := if tp σ + 1 ≤ TL ∧ sn σ + n ≤ SL then k (some (tp σ)) (nO σ t 0 n) else none
def nwA {α : Type} (TL SL : Nat) (σ : XS) (t : Nat) (n : Int32) (k : Option Nat → XS → Option α) : Option α := if 0 ≤ n ∧ n.toNatClampNeg ≤ 100000 ∧ tp σ + 1 ≤ TL ∧ sn σ + n.toNatClampNeg ≤ SL then k (some (tp σ)) (nO σ t n.toNatClampNeg n.toNatClampNeg) else none
/-- null, or an object of that tag (a cast that holds) -/
def cxC {α : Type} (σ : XS) (t : Nat) (r : Option Nat) (k : Option α) : Option α := match r with
  | none => k
  | some q => if tg σ q = t then k else none
/-- an object of that tag, by its address (the receiver of a call) -/
def nnX {α : Type} (σ : XS) (t : Nat) (r : Option Nat) (k : Nat → Option α) : Option α := match r with
  | none => none
  | some q => if tg σ q = t then k q else none
theorem XX.gx {own : String} (X : XX p m c cc nL s args meth D cx ro A ret own) : GX p m c cc nL s args meth D clX (tysX cx) ret own := X.1
theorem XX.k {own : String} (X : XX p m c cc nL s args meth D cx ro A ret own) : xK D cx ro A s := X.2
theorem x_obj {ci q : Nat} {r : vw_C} {cs sl9 : Nat} (hI : xInv D cx ro A s TL SL t0 s0 σ H locs cs sl9) (ht : tg σ q = ci + 1) (hc : clX[ci]? = some r) : t_OB q (D.1 ci) r.2.2 (D.2 ci) H (xV σ ci q) ∧ A q := by
  have hci : ci < 15 := (List.getElem?_eq_some_iff.mp hc).1
  obtain ⟨⟨r', h1, h2⟩, h3⟩ := hI.1.2.1 q ci ht hci
  cases h1.symm.trans hc
  exact ⟨h2, h3⟩
/-- a field read: from its own part of the nest or another's -/
theorem x_getV {ci k q index : Nat} {r : vw_C} {ref : String} {v : Value} (X : XX p m c cc nL s args meth D cx ro A ret own) (hc : clX[ci]? = some r) (hkb : Nat.blt k r.2.2 = true) (hfl : Cond.fieldLink own index ref (r.2.1 k).2.1 (r.2.1 k).2.2.1 ∈ lw_all) (hsame : ∀ x, s.fieldFound? (r.2.1 k).1 (r.2.1 k).2.1 (r.2.1 k).2.2.1 = some x → s.fieldFound? ref (r.2.1 k).2.1 (r.2.1 k).2.2.1 = some x) (ht : tg σ q = ci + 1) (hv : xV σ ci q k = v) (d : decode cc pc = .ok (.getfield index, 3))
    (kk : GW p l e R s m args below meth c Q (xInv D cx ro A s TL SL t0 s0 σ) (F0 m (pc + 3) ls (v :: rest))) : GW p l e R s m args below meth c Q (xInv D cx ro A s TL SL t0 s0 σ) (F0 m pc ls (.ref q :: rest)) := by
  intro H locs cs sl9 hI
  have hk : k < r.2.2 := Nat.le_of_ble_eq_true hkb
  obtain ⟨⟨cell, q1, q2, q3, q4⟩, -⟩ := x_obj hI ht hc
  have hK := X.k.1
  obtain ⟨hin, -, -⟩ := clX_ok ci r hc
  obtain ⟨hS2, hfc, kC, hkC, hkind⟩ := hK.1 ci _ hc
  obtain ⟨cf, kf, fi, f, hi, hsl⟩ := hS2 k hk
  refine W.getf X.gx.hx X.gx.hb X.gx.hown (X.gx.hts _ hfl) (hsame _ hi) (u_facts hfc hkC (u_lays X.gx.hts hin hk) hi).1 q1 (by rw [q3]; exact fun h => by cases h) (v := v) ?_ rfl rfl d (kk H locs cs sl9 hI)
  rw [hsl, q4 k hk, hv]
theorem x_getVN {ci k q index : Nat} {r : vw_C} {ref host : String} {v : Value} (X : XX p m c cc nL s args meth D cx ro A ret own) (hc : clX[ci]? = some r) (hkb : Nat.blt k r.2.2 = true) (hfl : Cond.fieldLinkNest own index ref (r.2.1 k).2.1 (r.2.1 k).2.2.1 host ∈ nestX) (hsame : ∀ x, s.fieldFound? (r.2.1 k).1 (r.2.1 k).2.1 (r.2.1 k).2.2.1 = some x → s.fieldFound? ref (r.2.1 k).2.1 (r.2.1 k).2.2.1 = some x) (ht : tg σ q = ci + 1) (hv : xV σ ci q k = v) (d : decode cc pc = .ok (.getfield index, 3))
    (kk : GW p l e R s m args below meth c Q (xInv D cx ro A s TL SL t0 s0 σ) (F0 m (pc + 3) ls (v :: rest))) : GW p l e R s m args below meth c Q (xInv D cx ro A s TL SL t0 s0 σ) (F0 m pc ls (.ref q :: rest)) := by
  intro H locs cs sl9 hI
  have hk : k < r.2.2 := Nat.le_of_ble_eq_true hkb
  obtain ⟨⟨cell, q1, q2, q3, q4⟩, -⟩ := x_obj hI ht hc
  have hK := X.k.1
  obtain ⟨hin, -, -⟩ := clX_ok ci r hc
  obtain ⟨hS2, hfc, kC, hkC, hkind⟩ := hK.1 ci _ hc
  obtain ⟨cf, kf, fi, f, hi, hsl⟩ := hS2 k hk
  refine va_Wgetf X.gx.hx X.gx.hb X.gx.hown (va_Nw.use rfl (X.k.2.1 _ hfl)) (hsame _ hi) (u_facts hfc hkC (u_lays X.gx.hts hin hk) hi).1 q1 (by rw [q3]; exact fun h => by cases h) (v := v) ?_ rfl rfl d (kk H locs cs sl9 hI)
  rw [hsl, q4 k hk, hv]
/-- a field of an object was written: the rest stays -/
theorem x_putted {ci k q i9 : Nat} {r : vw_C} {v : Value} {H1 : Heap} {cs sl9 : Nat} (hI : xInv D cx ro A s TL SL t0 s0 σ H locs cs sl9) (hc : clX[ci]? = some r) (ht : tg σ q = ci + 1) (h1 : t_OB q (D.1 ci) r.2.2 (D.2 ci) H1 (updV (xV σ ci q) k v)) (z : H1.size = H.size) (oq : ∀ x, x ≠ q → H1[x]? = H[x]?)
    (hA1 : τ.1 = σ.1) (hA2 : τ.2.1 = σ.2.1) (hA3 : τ.2.2.2.2.2 = σ.2.2.2.2.2) (hVq : ∀ j, updV (xV σ ci q) k v j = xV τ ci q j) (hVo : ∀ x cj j, x ≠ q → xV τ cj x j = xV σ cj x j) : xInv D cx ro A s TL SL t0 s0 τ H1 (locs ++ [⟨q, i9⟩]) cs sl9 := by
  have hAq := (x_obj hI ht hc).2
  obtain ⟨⟨g1, g2, g3, g4, g5, g6, g7⟩, hS, hcs, hsl, hlm⟩ := hI
  have htp : tp τ = tp σ := congrArg (fun z => z.2.2.1) hA3
  have hsn : sn τ = sn σ := congrArg (fun z => z.2.2.2) hA3
  have htg : ∀ x, tg τ x = tg σ x := fun x => congrFun hA1 x
  have hln : ∀ x, ln τ x = ln σ x := fun x => congrFun hA2 x
  have haI : ∀ x, aI τ x = aI σ x := fun x => congrFun (congrArg (fun z => z.1) hA3) x
  have haR : ∀ x, aR τ x = aR σ x := fun x => congrFun (congrArg (fun z => z.2.1) hA3) x
  refine ⟨⟨by rw [z, g1, htp], fun x cj hx hcj => ?_, fun x t hx htt => ?_, fun x t hx htt => ?_, fun x j hx hj => ?_, fun x i hx hi => g6 x i (by rw [← htg]; exact hx) hi, fun x hx => g7 x (by rw [← htp]; exact hx)⟩, hS.put z oq hAq, by rw [hcs, htp], by rw [hsl, hsn], by rw [lim, htp, hsn]; exact hlm⟩
  · rw [htg] at hx
    obtain ⟨⟨r', k1, k2⟩, k3⟩ := g2 x cj hx hcj
    refine ⟨⟨r', k1, ?_⟩, k3⟩
    by_cases hxq : x = q
    · subst hxq
      have e1 : cj = ci := by omega
      subst e1
      cases k1.symm.trans hc
      exact t_OB.to h1 (fun j _ => hVq j)
    · exact t_OB.to (k2.kept (oq x hxq)) (fun j _ => (hVo x cj j hxq).symm)
  · rw [htg] at hx
    obtain ⟨k1, k2⟩ := g3 x t hx htt
    have hxq : x ≠ q := fun e9 => by
      subst e9
      have : ci < 15 := (List.getElem?_eq_some_iff.mp hc).1
      omega
    refine ⟨?_, k2⟩
    rw [oq x hxq, k1]
    unfold xC
    rw [hln, haI, haR]
  · rw [htg] at hx
    have hxq : x ≠ q := fun e9 => by
      subst e9
      have : ci < 15 := (List.getElem?_eq_some_iff.mp hc).1
      omega
    obtain ⟨cell, k1, k2, k3, k4, k5⟩ := g4 x t hx htt
    exact ⟨cell, by rw [oq x hxq]; exact k1, k2, k3, by rw [hln]; exact k4, fun i hi => by rw [haR]; exact k5 i (by rw [← hln]; exact hi)⟩
  · rw [htg] at hx
    have hxq : x ≠ q := fun e9 => by
      subst e9
      have : ci < 15 := (List.getElem?_eq_some_iff.mp hc).1
      omega
    obtain ⟨cell, k1, k2, k3⟩ := g5 x j hx hj
    exact ⟨cell, by rw [oq x hxq]; exact k1, k2, k3⟩
theorem x_apart {ci : Nat} {r : vw_C} (X : XX p m c cc nL s args meth D cx ro A ret own) (hc : clX[ci]? = some r) : ∀ x y, x < r.2.2 → y < r.2.2 → x ≠ y → (D.2 ci) x ≠ (D.2 ci) y := by
  obtain ⟨hin, ⟨ty, hty, -⟩, hnm⟩ := clX_ok ci r hc
  exact va_apart (own := own) X.gx.hts hin ty hty hnm X.k.1 hc
theorem x_putV {ci k q index : Nat} {r : vw_C} {ref : String} {v : Value} {ty : FieldType} (X : XX p m c cc nL s args meth D cx ro A ret own) (hc : clX[ci]? = some r) (hkb : Nat.blt k r.2.2 = true) (hfl : Cond.fieldLink own index ref (r.2.1 k).2.1 (r.2.1 k).2.2.1 ∈ lw_all) (hsame : ∀ x, s.fieldFound? (r.2.1 k).1 (r.2.1 k).2.1 (r.2.1 k).2.2.1 = some x → s.fieldFound? ref (r.2.1 k).2.1 (r.2.1 k).2.2.1 = some x) (hfin : (r.2.1 k).2.2.2 = false) (hd : parseFieldDescriptor (r.2.1 k).2.2.1 = some ty) (hn : narrow ty v = v) (hfit : fits ty v = true) (ht : tg σ q = ci + 1)
    (hA1 : τ.1 = σ.1) (hA2 : τ.2.1 = σ.2.1) (hA3 : τ.2.2.2.2.2 = σ.2.2.2.2.2) (hVq : ∀ j, updV (xV σ ci q) k v j = xV τ ci q j) (hVo : ∀ x cj j, x ≠ q → xV τ cj x j = xV σ cj x j) (d : decode cc pc = .ok (.putfield index, 3))
    (kk : GW p l e R s m args below meth c Q (xInv D cx ro A s TL SL t0 s0 τ) (F0 m (pc + 3) ls rest)) : GW p l e R s m args below meth c Q (xInv D cx ro A s TL SL t0 s0 σ) (F0 m pc ls (v :: .ref q :: rest)) := by
  intro H locs cs sl9 hI
  have hk : k < r.2.2 := Nat.le_of_ble_eq_true hkb
  have hap := x_apart X hc
  obtain ⟨⟨cell, q1, q2, q3, q4⟩, -⟩ := x_obj hI ht hc
  obtain ⟨hin, -, -⟩ := clX_ok ci r hc
  obtain ⟨hS2, hfc, kC, hkC, hkind⟩ := X.k.1.1 ci _ hc
  obtain ⟨cf, kf, fi, f, hi, hsl⟩ := hS2 k hk
  have hlay := X.gx.hts _ (hin _ (u_in_lay hk))
  unfold u_lay at hlay
  rw [if_neg (by rw [hfin]; decide)] at hlay
  have hst := (u_facts hfc hkC (u_lays X.gx.hts hin hk) hi).1
  have h6 := u_store hfc hkC hkind hlay hi hd hn hfit
  refine W.putK X.gx.hx X.gx.hb (f := f) ⟨X.gx.hown, X.gx.hts _ hfl, ⟨_, _, _, hsame _ hi⟩, hst⟩ (by rw [q2]; exact h6) q1 q3 (by rw [hsl]; exact k2_hasslot (q4 k hk)) rfl rfl d fun H' e1 e2 e3 => ?_
  rw [hsl] at e1 ⊢
  exact kk H' _ _ _ (x_putted (k := k) (v := v) hI hc ht ⟨_, e1, q2, q3, t_set q4 hap hk v⟩ e2 e3 hA1 hA2 hA3 hVq hVo)
theorem x_putVN {ci k q index : Nat} {r : vw_C} {ref host : String} {v : Value} {ty : FieldType} (X : XX p m c cc nL s args meth D cx ro A ret own) (hc : clX[ci]? = some r) (hkb : Nat.blt k r.2.2 = true) (hfl : Cond.fieldLinkNest own index ref (r.2.1 k).2.1 (r.2.1 k).2.2.1 host ∈ nestX) (hsame : ∀ x, s.fieldFound? (r.2.1 k).1 (r.2.1 k).2.1 (r.2.1 k).2.2.1 = some x → s.fieldFound? ref (r.2.1 k).2.1 (r.2.1 k).2.2.1 = some x) (hfin : (r.2.1 k).2.2.2 = false) (hd : parseFieldDescriptor (r.2.1 k).2.2.1 = some ty) (hn : narrow ty v = v) (hfit : fits ty v = true) (ht : tg σ q = ci + 1)
    (hA1 : τ.1 = σ.1) (hA2 : τ.2.1 = σ.2.1) (hA3 : τ.2.2.2.2.2 = σ.2.2.2.2.2) (hVq : ∀ j, updV (xV σ ci q) k v j = xV τ ci q j) (hVo : ∀ x cj j, x ≠ q → xV τ cj x j = xV σ cj x j) (d : decode cc pc = .ok (.putfield index, 3))
    (kk : GW p l e R s m args below meth c Q (xInv D cx ro A s TL SL t0 s0 τ) (F0 m (pc + 3) ls rest)) : GW p l e R s m args below meth c Q (xInv D cx ro A s TL SL t0 s0 σ) (F0 m pc ls (v :: .ref q :: rest)) := by
  intro H locs cs sl9 hI
  have hk : k < r.2.2 := Nat.le_of_ble_eq_true hkb
  have hap := x_apart X hc
  obtain ⟨⟨cell, q1, q2, q3, q4⟩, -⟩ := x_obj hI ht hc
  obtain ⟨hin, -, -⟩ := clX_ok ci r hc
  obtain ⟨hS2, hfc, kC, hkC, hkind⟩ := X.k.1.1 ci _ hc
  obtain ⟨cf, kf, fi, f, hi, hsl⟩ := hS2 k hk
  have hlay := X.gx.hts _ (hin _ (u_in_lay hk))
  unfold u_lay at hlay
  rw [if_neg (by rw [hfin]; decide)] at hlay
  have hst := (u_facts hfc hkC (u_lays X.gx.hts hin hk) hi).1
  have h6 := u_store hfc hkC hkind hlay hi hd hn hfit
  refine va_WputK X.gx.hx X.gx.hb (f := f) X.gx.hown (va_Nw.use rfl (X.k.2.1 _ hfl)) (hsame _ hi) hst (by rw [q2]; exact h6) q1 q3 (by rw [hsl]; exact k2_hasslot (q4 k hk)) rfl rfl d fun H' e1 e2 e3 => ?_
  rw [hsl] at e1 ⊢
  exact kk H' _ _ _ (x_putted (k := k) (v := v) hI hc ht ⟨_, e1, q2, q3, t_set q4 hap hk v⟩ e2 e3 hA1 hA2 hA3 hVq hVo)
theorem x_putVF {ci k q index : Nat} {r : vw_C} {ref : String} {v : Value} {ty : FieldType} (X : XX p m c cc nL s args meth D cx ro A ret own) (hin2 : meth.name = "<init>") (hc : clX[ci]? = some r) (hkb : Nat.blt k r.2.2 = true) (hfl : Cond.fieldLink own index ref (r.2.1 k).2.1 (r.2.1 k).2.2.1 ∈ lw_all) (hsame : ∀ x, s.fieldFound? (r.2.1 k).1 (r.2.1 k).2.1 (r.2.1 k).2.2.1 = some x → s.fieldFound? ref (r.2.1 k).2.1 (r.2.1 k).2.2.1 = some x) (hfin : (r.2.1 k).2.2.2 = true) (hdecl : (r.2.1 k).1 = own) (hd : parseFieldDescriptor (r.2.1 k).2.2.1 = some ty) (hn : narrow ty v = v) (hfit : fits ty v = true) (ht : tg σ q = ci + 1)
    (hA1 : τ.1 = σ.1) (hA2 : τ.2.1 = σ.2.1) (hA3 : τ.2.2.2.2.2 = σ.2.2.2.2.2) (hVq : ∀ j, updV (xV σ ci q) k v j = xV τ ci q j) (hVo : ∀ x cj j, x ≠ q → xV τ cj x j = xV σ cj x j) (d : decode cc pc = .ok (.putfield index, 3))
    (kk : GW p l e R s m args below meth c Q (xInv D cx ro A s TL SL t0 s0 τ) (F0 m (pc + 3) ls rest)) : GW p l e R s m args below meth c Q (xInv D cx ro A s TL SL t0 s0 σ) (F0 m pc ls (v :: .ref q :: rest)) := by
  intro H locs cs sl9 hI
  have hk : k < r.2.2 := Nat.le_of_ble_eq_true hkb
  have hap := x_apart X hc
  obtain ⟨⟨cell, q1, q2, q3, q4⟩, -⟩ := x_obj hI ht hc
  obtain ⟨hin, -, -⟩ := clX_ok ci r hc
  obtain ⟨hS2, hfc, kC, hkC, hkind⟩ := X.k.1.1 ci _ hc
  obtain ⟨cf, kf, fi, f, hi, hsl⟩ := hS2 k hk
  have hlay := X.gx.hts _ (hin _ (u_in_lay hk))
  unfold u_lay at hlay
  rw [if_pos hfin] at hlay
  have hst := (u_facts hfc hkC (u_lays X.gx.hts hin hk) hi).1
  have hcf : m.cls = cf := by
    obtain ⟨_, _, c', _, _, _, -, -, hf', -, -, -, hown2, -⟩ := Cond.laysFinal_spec hlay
    have e1 : c' = cf := by have := hi.symm.trans hf'; simp at this; exact this.1.symm
    rw [hdecl] at hown2
    rw [← e1]; exact Option.some.inj (X.gx.hown.symm.trans hown2)
  have h6 := u_fits hfc hkC hkind (Or.inr hlay) hi hd hn hfit
  refine W.putFinK X.gx.hx X.gx.hb X.gx.hown (X.gx.hts _ hfl) (hsame _ hi) hst hcf hin2 (by rw [q2]; exact h6) q1 q3 (by rw [hsl]; exact k2_hasslot (q4 k hk)) rfl rfl d fun H' e1 e2 e3 => ?_
  rw [hsl] at e1 ⊢
  exact kk H' _ _ _ (x_putted (k := k) (v := v) hI hc ht ⟨_, e1, q2, q3, t_set q4 hap hk v⟩ e2 e3 hA1 hA2 hA3 hVq hVo)
/-- what a write into a column does to the values of objects -/
theorem xV_pI {ci k q : Nat} {v : Int32} (g : Nat) (hg : g = 32 * ci + k) (hx : kx ci k = 0) : (∀ j, updV (xV σ ci q) k (.int v) j = xV (pI σ g q v) ci q j) ∧ ∀ x cj j, x ≠ q → xV (pI σ g q v) cj x j = xV σ cj x j := by
  subst hg
  refine ⟨fun j => ?_, fun x cj j hxq => ?_⟩
  · by_cases hjk : j = k
    · subst hjk
      simp [updV, xV, hx, fI, pI, up2]
    · have hne : ¬ 32 * ci + j = 32 * ci + k := by omega
      simp [updV, xV, hjk, fI, pI, up2, fL, fR, hne]
  · simp [xV, fI, fL, fR, pI, up2, hxq]
theorem xV_pR {ci k q : Nat} {v : Option Nat} (g : Nat) (hg : g = 32 * ci + k) (hx : kx ci k = 2) : (∀ j, updV (xV σ ci q) k (va_rf v) j = xV (pR σ g q v) ci q j) ∧ ∀ x cj j, x ≠ q → xV (pR σ g q v) cj x j = xV σ cj x j := by
  subst hg
  refine ⟨fun j => ?_, fun x cj j hxq => ?_⟩
  · by_cases hjk : j = k
    · subst hjk
      simp [updV, xV, hx, fR, pR, up2]
    · have hne : ¬ 32 * ci + j = 32 * ci + k := by omega
      simp [updV, xV, hjk, fI, pR, up2, fL, fR, hne]
  · simp [xV, fI, fL, fR, pR, up2, hxq]
theorem xV_pL {ci k q : Nat} {v : Int64} (g : Nat) (hg : g = 32 * ci + k) (hx : kx ci k = 1) : (∀ j, updV (xV σ ci q) k (.long v) j = xV (pL σ g q v) ci q j) ∧ ∀ x cj j, x ≠ q → xV (pL σ g q v) cj x j = xV σ cj x j := by
  subst hg
  refine ⟨fun j => ?_, fun x cj j hxq => ?_⟩
  · by_cases hjk : j = k
    · subst hjk
      simp [updV, xV, hx, fL, pL, up2]
    · have hne : ¬ 32 * ci + j = 32 * ci + k := by omega
      simp [updV, xV, hjk, fI, pL, up2, fL, fR, hne]
  · simp [xV, fI, fL, fR, pL, up2, hxq]
/-! arrays -/
theorem x_arr {t q : Nat} {cs sl9 : Nat} (hI : xInv D cx ro A s TL SL t0 s0 σ H locs cs sl9) (ht : tg σ q = 100 + t) (h5 : t < 5) : H[q]? = some (vp_cell (cx t) (xC σ t q)) ∧ A q := hI.1.2.2.1 q t ht h5
theorem x_iald {α : Type} {res : α} {r : Option Nat} {i : Int32} {kf : Int32 → Option α} (X : XX p m c cc nL s args meth D cx ro A ret own) (hF : rxA σ 100 r i kf = some res) (d : decode cc pc = .ok (.iaload, 1))
    (kk : ∀ v, kf v = some res → GW p l e R s m args below meth c Q (xInv D cx ro A s TL SL t0 s0 σ) (F0 m (pc + 1) ls (.int v :: rest))) : GW p l e R s m args below meth c Q (xInv D cx ro A s TL SL t0 s0 σ) (F0 m pc ls (.int i :: va_rf r :: rest)) := by
  intro H locs cs sl9 hI
  cases r with
  | none => cases hF
  | some q =>
    simp only [rxA] at hF
    split at hF
    · rename_i ht
      split at hF
      · rename_i hb
        have hin := inb_in hb
        have hlt : i.toNatClampNeg < ln σ q := Nat.not_le.mp fun z => hin (Or.inr z)
        have hcell := (x_arr (t := 0) hI ht (by decide)).1
        have e1 : xC σ 0 q = (ln σ q, .inl (aI σ q)) := rfl
        rw [e1, vp_cell_i] at hcell
        exact W.iald (v := .int (aI σ q i.toNatClampNeg)) X.gx.hx X.gx.hb hcell ((X.k.1.2 0 _ rfl).1 _ _) (fun q => by cases q) (by rw [arrV_size]; exact hin) (by rw [arrV_read _ _ hlt]) rfl rfl d (kk _ hF H locs cs sl9 hI)
      · cases hF
    · cases hF
theorem x_bald {α : Type} {res : α} {r : Option Nat} {i : Int32} {kf : Int32 → Option α} (X : XX p m c cc nL s args meth D cx ro A ret own) (hF : rxA σ 101 r i kf = some res) (d : decode cc pc = .ok (.baload, 1))
    (kk : ∀ v, kf v = some res → GW p l e R s m args below meth c Q (xInv D cx ro A s TL SL t0 s0 σ) (F0 m (pc + 1) ls (.int v :: rest))) : GW p l e R s m args below meth c Q (xInv D cx ro A s TL SL t0 s0 σ) (F0 m pc ls (.int i :: va_rf r :: rest)) := by
  intro H locs cs sl9 hI
  cases r with
  | none => cases hF
  | some q =>
    simp only [rxA] at hF
    split at hF
    · rename_i ht
      split at hF
      · rename_i hb
        have hin := inb_in hb
        have hlt : i.toNatClampNeg < ln σ q := Nat.not_le.mp fun z => hin (Or.inr z)
        have hcell := (x_arr (t := 1) hI ht (by decide)).1
        have e1 : xC σ 1 q = (ln σ q, .inl (aI σ q)) := rfl
        rw [e1, vp_cell_i] at hcell
        exact W.bald (v := .int (aI σ q i.toNatClampNeg)) X.gx.hx X.gx.hb hcell ((X.k.1.2 1 _ rfl).1 _ _) (fun q => by cases q) (by rw [arrV_size]; exact hin) (by rw [arrV_read _ _ hlt]) rfl rfl d (kk _ hF H locs cs sl9 hI)
      · cases hF
    · cases hF
/-- an array's place was written: the rest stays -/
theorem x_astored {t q i9 : Nat} {H1 : Heap} {cs sl9 : Nat} (hI : xInv D cx ro A s TL SL t0 s0 σ H locs cs sl9) (ht : tg σ q = 100 + t) (h5 : t < 5) (h1 : H1[q]? = some (vp_cell (cx t) (xC τ t q))) (z : H1.size = H.size) (oq : ∀ x, x ≠ q → H1[x]? = H[x]?)
    (hA1 : τ.1 = σ.1) (hA2 : τ.2.1 = σ.2.1) (hA3 : τ.2.2.1 = σ.2.2.1) (hA4 : τ.2.2.2.1 = σ.2.2.2.1) (hA5 : τ.2.2.2.2.1 = σ.2.2.2.2.1) (htp : tp τ = tp σ) (hsn : sn τ = sn σ) (haI : ∀ x, x ≠ q → aI τ x = aI σ x) (haR : ∀ x, x ≠ q → aR τ x = aR σ x) : xInv D cx ro A s TL SL t0 s0 τ H1 (locs ++ [⟨q, i9⟩]) cs sl9 := by
  have hAq := (x_arr hI ht h5).2
  obtain ⟨⟨g1, g2, g3, g4, g5, g6, g7⟩, hS, hcs, hsl, hlm⟩ := hI
  have htg : ∀ x, tg τ x = tg σ x := fun x => congrFun hA1 x
  have hln : ∀ x, ln τ x = ln σ x := fun x => congrFun hA2 x
  have hV : ∀ cj x j, xV τ cj x j = xV σ cj x j := fun cj x j => by
    simp [xV, fI, fL, fR, hA3, hA4, hA5]
  refine ⟨⟨by rw [z, g1, htp], fun x cj hx hcj => ?_, fun x t' hx htt => ?_, fun x t' hx htt => ?_, fun x j hx hj => ?_, fun x i hx hi => g6 x i (by rw [← htg]; exact hx) hi, fun x hx => g7 x (by rw [← htp]; exact hx)⟩, hS.put z oq hAq, by rw [hcs, htp], by rw [hsl, hsn], by rw [lim, htp, hsn]; exact hlm⟩
  · rw [htg] at hx
    obtain ⟨⟨r', k1, k2⟩, k3⟩ := g2 x cj hx hcj
    have hxq : x ≠ q := fun e9 => by
      subst e9
      omega
    exact ⟨⟨r', k1, t_OB.to (k2.kept (oq x hxq)) (fun j _ => (hV cj x j).symm)⟩, k3⟩
  · rw [htg] at hx
    by_cases hxq : x = q
    · subst hxq
      have e1 : t' = t := by omega
      subst e1
      exact ⟨h1, hAq⟩
    · obtain ⟨k1, k2⟩ := g3 x t' hx htt
      refine ⟨?_, k2⟩
      rw [oq x hxq, k1]
      unfold xC
      rw [hln, haI x hxq, haR x hxq]
  · rw [htg] at hx
    have hxq : x ≠ q := fun e9 => by
      subst e9
      omega
    obtain ⟨cell, k1, k2, k3, k4, k5⟩ := g4 x t' hx htt
    exact ⟨cell, by rw [oq x hxq]; exact k1, k2, k3, by rw [hln]; exact k4, fun i hi => by rw [haR x hxq]; exact k5 i (by rw [← hln]; exact hi)⟩
  · rw [htg] at hx
    have hxq : x ≠ q := fun e9 => by
      subst e9
      omega
    obtain ⟨cell, k1, k2, k3⟩ := g5 x j hx hj
    exact ⟨cell, by rw [oq x hxq]; exact k1, k2, k3⟩
theorem pA_ne {q i x : Nat} {v : Int32} (h : x ≠ q) : aI (pA σ q i v) x = aI σ x := funext fun j => if_neg (fun e => h e.1)
theorem pQ_ne {q i x : Nat} {v : Option Nat} (h : x ≠ q) : aR (pQ σ q i v) x = aR σ x := funext fun j => if_neg (fun e => h e.1)
theorem x_iast {α : Type} {res : α} {r : Option Nat} {i v : Int32} {kf : XS → Option α} (X : XX p m c cc nL s args meth D cx ro A ret own) (hF : wxA σ 100 r i v kf = some res) (ha : agW n w σ0 σ) (hw : w.2.2.2.1 = true) (d : decode cc pc = .ok (.iastore, 1))
    (kk : ∀ σ1, kf σ1 = some res → agW n w σ0 σ1 → GW p l e R s m args below meth c Q (xInv D cx ro A s TL SL t0 s0 σ1) (F0 m (pc + 1) ls rest)) : GW p l e R s m args below meth c Q (xInv D cx ro A s TL SL t0 s0 σ) (F0 m pc ls (.int v :: .int i :: va_rf r :: rest)) := by
  intro H locs cs sl9 hI
  cases r with
  | none => cases hF
  | some q =>
    simp only [wxA] at hF
    split at hF
    · rename_i ht
      split at hF
      · rename_i hb
        have hin := inb_in hb
        have hcell := (x_arr (t := 0) hI ht (by decide)).1
        have e1 : ∀ ρ : XS, xC ρ 0 q = (ln ρ q, .inl (aI ρ q)) := fun ρ => rfl
        rw [e1, vp_cell_i] at hcell
        refine W.iast X.gx.hx X.gx.hb hcell ((X.k.1.2 0 _ rfl).1 _ _) (fun q => by cases q) (by rw [arrV_size]; exact hin) rfl rfl d fun H1 e9 z oq => ?_
        refine kk _ hF (ha.pA hw) H1 _ cs sl9 (x_astored (t := 0) hI ht (by decide) ?_ z oq rfl rfl rfl rfl rfl rfl rfl (fun x hx => pA_ne hx) (fun x hx => rfl))
        rw [e9, e1, vp_cell_i, arrV_store]
        have e2 : ln (pA σ q i.toNatClampNeg v) q = ln σ q := rfl
        rw [e2]
        congr 2
        funext j
        by_cases hj : j = i.toNatClampNeg
        · subst hj
          simp [updV, pA, aI, up2]
        · simp [updV, pA, aI, up2, hj]
      · cases hF
    · cases hF
theorem x_bast {α : Type} {res : α} {r : Option Nat} {i v : Int32} {kf : XS → Option α} (X : XX p m c cc nL s args meth D cx ro A ret own) (hF : wxA σ 101 r i v.toInt8.toInt32 kf = some res) (ha : agW n w σ0 σ) (hw : w.2.2.2.1 = true) (d : decode cc pc = .ok (.bastore, 1))
    (kk : ∀ σ1, kf σ1 = some res → agW n w σ0 σ1 → GW p l e R s m args below meth c Q (xInv D cx ro A s TL SL t0 s0 σ1) (F0 m (pc + 1) ls rest)) : GW p l e R s m args below meth c Q (xInv D cx ro A s TL SL t0 s0 σ) (F0 m pc ls (.int v :: .int i :: va_rf r :: rest)) := by
  intro H locs cs sl9 hI
  cases r with
  | none => cases hF
  | some q =>
    simp only [wxA] at hF
    split at hF
    · rename_i ht
      split at hF
      · rename_i hb
        have hin := inb_in hb
        have hcell := (x_arr (t := 1) hI ht (by decide)).1
        have e1 : ∀ ρ : XS, xC ρ 1 q = (ln ρ q, .inl (aI ρ q)) := fun ρ => rfl
        rw [e1, vp_cell_i] at hcell
        refine W.bast X.gx.hx X.gx.hb hcell ((X.k.1.2 1 _ rfl).1 _ _) (fun q => by cases q) (by rw [arrV_size]; exact hin) rfl rfl d fun H1 e9 z oq => ?_
        refine kk _ hF (ha.pA hw) H1 _ cs sl9 (x_astored (t := 1) hI ht (by decide) ?_ z oq rfl rfl rfl rfl rfl rfl rfl (fun x hx => pA_ne hx) (fun x hx => rfl))
        have hnv : narrow .byte (.int v) = .int v.toInt8.toInt32 := rfl
        rw [e9, e1, vp_cell_i, hnv, arrV_store]
        have e2 : ln (pA σ q i.toNatClampNeg v.toInt8.toInt32) q = ln σ q := rfl
        rw [e2]
        congr 2
        funext j
        by_cases hj : j = i.toNatClampNeg
        · subst hj
          simp [updV, pA, aI, up2]
        · simp [updV, pA, aI, up2, hj]
      · cases hF
    · cases hF
theorem x_acell {q : Nat} {cs sl9 : Nat} (X : XX p m c cc nL s args meth D cx ro A ret own) (hI : xInv D cx ro A s TL SL t0 s0 σ H locs cs sl9) (ht : atag (tg σ q) = true) : ∃ (cell : Cell) (ty : FieldType), H[q]? = some cell ∧ s.isArrayOf cell ty ∧ cell.vm ≠ .unknown ∧ cell.slots.size = ln σ q ∧ (qtag (tg σ q) = true → (∃ C, ty = .object C) ∧ ∀ i, i < ln σ q → cell.slots[i]? = some (va_rf (aR σ q i))) := by
  have hcase : tg σ q = 100 + 0 ∨ tg σ q = 100 + 1 ∨ tg σ q = 100 + 2 ∨ tg σ q = 100 + 3 ∨ tg σ q = 100 + 4 ∨ tg σ q = 110 + 1 ∨ tg σ q = 110 + 2 ∨ tg σ q = 110 + 3 := by
    simp only [atag, Bool.or_eq_true, Bool.and_eq_true, Nat.ble_eq] at ht
    omega
  have hcell : ∀ (t : Nat) (ty : FieldType), t < 5 → tg σ q = 100 + t → (tysX cx)[t]? = some (cx t, ty) → (2 ≤ t → ∃ C, ty = .object C) → ∃ (cell : Cell) (ty : FieldType), H[q]? = some cell ∧ s.isArrayOf cell ty ∧ cell.vm ≠ .unknown ∧ cell.slots.size = ln σ q ∧ (qtag (tg σ q) = true → (∃ C, ty = .object C) ∧ ∀ i, i < ln σ q → cell.slots[i]? = some (va_rf (aR σ q i))) := by
    intro t ty h5 e1 e2 e3
    have h1 := (x_arr (t := t) hI e1 h5).1
    have hty := X.k.1.2 t _ e2
    by_cases h2 : t < 2
    · have e4 : xC σ t q = (ln σ q, .inl (aI σ q)) := by unfold xC; rw [if_pos h2]
      rw [e4, vp_cell_i] at h1
      refine ⟨_, ty, h1, hty.1 _ _, (fun h => by cases h), arrV_size _ _ _, fun hq => ?_⟩
      simp only [qtag, e1, Bool.or_eq_true, Bool.and_eq_true, Nat.ble_eq] at hq
      omega
    · have e4 : xC σ t q = (ln σ q, .inr (.inr (.inr (.inr (aR σ q))))) := by unfold xC; rw [if_neg h2]
      rw [e4, vp_cell_q] at h1
      exact ⟨_, ty, h1, hty.1 _ _, (fun h => by cases h), arrV_size _ _ _, fun _ => ⟨e3 (by omega), fun i hi => arrV_read _ _ hi⟩⟩
  have hrom : ∀ t, t < 4 → tg σ q = 110 + t → ∃ (cell : Cell) (ty : FieldType), H[q]? = some cell ∧ s.isArrayOf cell ty ∧ cell.vm ≠ .unknown ∧ cell.slots.size = ln σ q ∧ (qtag (tg σ q) = true → (∃ C, ty = .object C) ∧ ∀ i, i < ln σ q → cell.slots[i]? = some (va_rf (aR σ q i))) := by
    intro t h4 e1
    obtain ⟨cell, k1, k2, k3, k4, k5⟩ := hI.1.2.2.2.1 q t e1 h4
    exact ⟨cell, _, k1, k2, k3, k4, fun _ => ⟨⟨_, rfl⟩, k5⟩⟩
  rcases hcase with h | h | h | h | h | h | h | h
  · exact hcell 0 _ (by decide) h rfl (fun h => absurd h (by decide))
  · exact hcell 1 _ (by decide) h rfl (fun h => absurd h (by decide))
  · exact hcell 2 _ (by decide) h rfl (fun _ => ⟨_, rfl⟩)
  · exact hcell 3 _ (by decide) h rfl (fun _ => ⟨_, rfl⟩)
  · exact hcell 4 _ (by decide) h rfl (fun _ => ⟨_, rfl⟩)
  · exact hrom 1 (by decide) h
  · exact hrom 2 (by decide) h
  · exact hrom 3 (by decide) h
theorem qtag_atag {t : Nat} (h : qtag t = true) : atag t = true := by
  simp only [qtag, atag, Bool.or_eq_true, Bool.and_eq_true, Nat.ble_eq] at h ⊢
  omega
theorem x_aald {α : Type} {res : α} {r : Option Nat} {i : Int32} {kf : Option Nat → Option α} (X : XX p m c cc nL s args meth D cx ro A ret own) (hF : rxQ σ r i kf = some res) (d : decode cc pc = .ok (.aaload, 1))
    (kk : ∀ v, kf v = some res → GW p l e R s m args below meth c Q (xInv D cx ro A s TL SL t0 s0 σ) (F0 m (pc + 1) ls (va_rf v :: rest))) : GW p l e R s m args below meth c Q (xInv D cx ro A s TL SL t0 s0 σ) (F0 m pc ls (.int i :: va_rf r :: rest)) := by
  intro H locs cs sl9 hI
  cases r with
  | none => cases hF
  | some q =>
    simp only [rxQ] at hF
    split at hF
    · rename_i ht
      split at hF
      · rename_i hb
        have hin := inb_in hb
        have hlt : i.toNatClampNeg < ln σ q := Nat.not_le.mp fun z => hin (Or.inr z)
        obtain ⟨cell, ty, k1, k2, k3, k4, k5⟩ := x_acell X hI (qtag_atag ht)
        obtain ⟨⟨C, rfl⟩, k6⟩ := k5 ht
        exact W.aald (v := va_rf (aR σ q i.toNatClampNeg)) (ty := .object C) X.gx.hx X.gx.hb k1 k2 rfl k3 (by rw [k4]; exact hin) (k6 _ hlt) rfl rfl d (kk _ hF H locs cs sl9 hI)
      · cases hF
    · cases hF
theorem x_alen {α : Type} {res : α} {r : Option Nat} {kf : Int32 → Option α} (X : XX p m c cc nL s args meth D cx ro A ret own) (hF : lxA σ r kf = some res) (d : decode cc pc = .ok (.arraylength, 1))
    (kk : ∀ v, kf v = some res → GW p l e R s m args below meth c Q (xInv D cx ro A s TL SL t0 s0 σ) (F0 m (pc + 1) ls (.int v :: rest))) : GW p l e R s m args below meth c Q (xInv D cx ro A s TL SL t0 s0 σ) (F0 m pc ls (va_rf r :: rest)) := by
  intro H locs cs sl9 hI
  cases r with
  | none => cases hF
  | some q =>
    simp only [lxA] at hF
    split at hF
    · rename_i ht
      obtain ⟨cell, ty, k1, k2, k3, k4, -⟩ := x_acell X hI ht
      exact W.alen (n := Int32.ofNat (ln σ q)) X.gx.hx X.gx.hb k1 k2 (by rw [k4]) rfl rfl d (kk _ hF H locs cs sl9 hI)
    · cases hF
theorem castO : ∀ (ci : Nat) (r : vw_C), clX[ci]? = some r → Cond.castable r.1 "java/lang/Object" ∈ nestX := by
  intro ci r h
  match ci, h with
  | 0, h => cases h; exact List.mem_of_getElem? (i := 107) rfl
  | 1, h => cases h; exact List.mem_of_getElem? (i := 108) rfl
  | 2, h => cases h; exact List.mem_of_getElem? (i := 104) rfl
  | 3, h => cases h; exact List.mem_of_getElem? (i := 122) rfl
  | 4, h => cases h; exact List.mem_of_getElem? (i := 125) rfl
  | 5, h => cases h; exact List.mem_of_getElem? (i := 126) rfl
  | 6, h => cases h; exact List.mem_of_getElem? (i := 128) rfl
  | 7, h => cases h; exact List.mem_of_getElem? (i := 129) rfl
  | 8, h => cases h; exact List.mem_of_getElem? (i := 131) rfl
  | 9, h => cases h; exact List.mem_of_getElem? (i := 109) rfl
  | 10, h => cases h; exact List.mem_of_getElem? (i := 111) rfl
  | 11, h => cases h; exact List.mem_of_getElem? (i := 113) rfl
  | 12, h => cases h; exact List.mem_of_getElem? (i := 115) rfl
  | 13, h => cases h; exact List.mem_of_getElem? (i := 116) rfl
  | 14, h => cases h; exact List.mem_of_getElem? (i := 117) rfl
  | n + 15, h => simp [clX] at h
theorem castP : ∀ (ci : Nat) (r : vw_C), clX[ci]? = some r → 8 ≤ ci → ci ≤ 11 → Cond.castable r.1 "TubBites$Part" ∈ nestX := by
  intro ci r h h1 h2
  match ci, h with
  | 0, _ => omega
  | 1, _ => omega
  | 2, _ => omega
  | 3, _ => omega
  | 4, _ => omega
  | 5, _ => omega
  | 6, _ => omega
  | 7, _ => omega
  | 8, h => cases h; exact List.mem_of_getElem? (i := 132) rfl
  | 9, h => cases h; exact List.mem_of_getElem? (i := 110) rfl
  | 10, h => cases h; exact List.mem_of_getElem? (i := 112) rfl
  | 11, h => cases h; exact List.mem_of_getElem? (i := 114) rfl
  | n + 12, _ => omega
theorem x_aast {α : Type} {res : α} {r v : Option Nat} {i : Int32} {kf : XS → Option α} (X : XX p m c cc nL s args meth D cx ro A ret own) (hF : wxQ σ r i v kf = some res) (ha : agW n w σ0 σ) (hw : w.2.2.2.2 = true) (d : decode cc pc = .ok (.aastore, 1))
    (kk : ∀ σ1, kf σ1 = some res → agW n w σ0 σ1 → GW p l e R s m args below meth c Q (xInv D cx ro A s TL SL t0 s0 σ1) (F0 m (pc + 1) ls rest)) : GW p l e R s m args below meth c Q (xInv D cx ro A s TL SL t0 s0 σ) (F0 m pc ls (va_rf v :: .int i :: va_rf r :: rest)) := by
  intro H locs cs sl9 hI
  cases r with
  | none => cases hF
  | some q =>
    simp only [wxQ] at hF
    split at hF
    · rename_i ht
      simp only [Bool.and_eq_true, Nat.ble_eq] at ht
      obtain ⟨⟨ht1, ht2⟩, hok⟩ := ht
      split at hF
      · rename_i hb
        have hin := inb_in hb
        have hlt : i.toNatClampNeg < ln σ q := Nat.not_le.mp fun z => hin (Or.inr z)
        have h0 : ¬ i < 0 := fun z => hin (Or.inl z)
        obtain ⟨t, h2, h5, htq⟩ : ∃ t, 2 ≤ t ∧ t < 5 ∧ tg σ q = 100 + t := ⟨tg σ q - 100, by omega, by omega, by omega⟩
        have hcell := (x_arr hI htq h5).1
        have e4 : ∀ ρ : XS, xC ρ t q = (ln ρ q, .inr (.inr (.inr (.inr (aR ρ q))))) := fun ρ => by unfold xC; rw [if_neg (by omega)]
        rw [e4, vp_cell_q] at hcell
        obtain ⟨C, hC⟩ : ∃ C, (tysX cx)[t]? = some (cx t, .object C) ∧ (t = 2 → C = "java/lang/Object") ∧ (t = 3 → C = "TubBites$Part") ∧ (t = 4 → C = "TubBites$Kept") := by
          rcases (show t = 2 ∨ t = 3 ∨ t = 4 by omega) with e | e | e <;> subst e
          · exact ⟨_, rfl, fun _ => rfl, fun h => absurd h (by decide), fun h => absurd h (by decide)⟩
          · exact ⟨_, rfl, fun h => absurd h (by decide), fun _ => rfl, fun h => absurd h (by decide)⟩
          · exact ⟨_, rfl, fun h => absurd h (by decide), fun h => absurd h (by decide), fun _ => rfl⟩
        obtain ⟨hC, hC2, hC3, hC4⟩ := hC
        have hty := X.k.1.2 t _ hC
        have fin : ∀ H1 : Heap, H1[q]? = some ((arrV (cx t) (ln σ q) fun j => va_rf (aR σ q j)).setSlot i.toNatClampNeg (va_rf v)) → H1.size = H.size → (∀ x, x ≠ q → H1[x]? = H[x]?) → W p l e R s m args below meth c H1 (locs ++ [⟨q, i.toNatClampNeg⟩]) cs sl9 Q (F0 m (pc + 1) ls rest) := by
          intro H1 e9 z oq
          refine kk _ hF (ha.pQ hw) H1 _ cs sl9 (x_astored (t := t) hI htq h5 ?_ z oq rfl rfl rfl rfl rfl rfl rfl (fun x hx => rfl) (fun x hx => pQ_ne hx))
          rw [e9, e4, vp_cell_q, arrV_store]
          have e2 : ln (pQ σ q i.toNatClampNeg v) q = ln σ q := rfl
          rw [e2]
          congr 2
          funext j
          by_cases hj : j = i.toNatClampNeg
          · subst hj
            simp [updV, pQ, aR, up2]
          · simp [updV, pQ, aR, up2, hj]
        cases v with
        | none => exact va_WaastN (C := C) X.gx.hx X.gx.hb hcell (hty.1 _ _) (fun h => by cases h) (by rw [arrV_size]; exact hin) rfl rfl d fin
        | some x =>
          obtain ⟨kA, comp, k1, k2, k3, -⟩ := hty.2
          obtain ⟨kE, hkE, -⟩ := Vm.findClass_spec k3
          obtain ⟨cj, r', hcj, htx, hcast⟩ : ∃ cj r', clX[cj]? = some r' ∧ tg σ x = cj + 1 ∧ (Cond.castable r'.1 C ∈ nestX ∨ r'.1 = C) := by
            rcases (show t = 2 ∨ t = 3 ∨ t = 4 by omega) with e | e | e
            · rw [htq, e] at hok
              simp only [okQ, Bool.and_eq_true, Nat.ble_eq] at hok
              obtain ⟨cj, hcj⟩ : ∃ cj, tg σ x = cj + 1 := ⟨tg σ x - 1, by omega⟩
              obtain ⟨r', hr'⟩ : ∃ r', clX[cj]? = some r' := by
                have : cj < clX.length := by show cj < 15; omega
                exact ⟨_, List.getElem?_eq_getElem this⟩
              exact ⟨cj, r', hr', hcj, Or.inl (by rw [hC2 e]; exact castO cj r' hr')⟩
            · rw [htq, e] at hok
              simp only [okQ, Bool.and_eq_true, Nat.ble_eq] at hok
              obtain ⟨cj, hcj⟩ : ∃ cj, tg σ x = cj + 1 := ⟨tg σ x - 1, by omega⟩
              obtain ⟨r', hr'⟩ : ∃ r', clX[cj]? = some r' := by
                have : cj < clX.length := by show cj < 15; omega
                exact ⟨_, List.getElem?_eq_getElem this⟩
              exact ⟨cj, r', hr', hcj, Or.inl (by rw [hC3 e]; exact castP cj r' hr' (by omega) (by omega))⟩
            · rw [htq, e] at hok
              simp only [okQ, Nat.beq_eq] at hok
              exact ⟨4, _, rfl, hok, Or.inr (by rw [hC4 e]; rfl)⟩
          obtain ⟨⟨cellV, g1, g2, g3, -⟩, -⟩ := x_obj hI htx hcj
          have hcls := (X.k.1.1 cj _ hcj).2
          obtain ⟨kC, hkC, -⟩ := hcls.2
          have hasg : s.vm.assignable (D.1 cj) comp = true := by
            rcases hcast with hc9 | hc9
            · obtain ⟨c0, t1, f1, f2, f3⟩ := Cond.castable_spec (va_Nw.use (A := args) rfl (X.k.2.1 _ hc9))
              cases hcls.1.symm.trans f1
              cases k3.symm.trans f2
              exact f3
            · rw [← hc9] at k3
              cases k3.symm.trans hcls.1
              exact va_assign hcls
          exact W.aast X.gx.hx X.gx.hb hcell (fun q h => by cases h) (fun h => by cases h) k1 k2 rfl hkE ⟨h0, by rw [arrV_size]; exact hlt⟩ g1 (fun q h => by rw [g3] at h; cases h) (by rw [g2]; exact hkC) (by rw [g2]; exact hasg) rfl rfl d fin
      · cases hF
    · cases hF
/-- a cell was made at the heap's end -/
theorem x_made {t m9 k9 : Nat} {H1 : Heap} {cs sl9 : Nat} (hI : xInv D cx ro A s TL SL t0 s0 σ H locs cs sl9) (z : H1.size = H.size + 1) (oq : ∀ x, x < H.size → H1[x]? = H[x]?)
    (hO : ∀ ci, t = ci + 1 → ci < 15 → ∃ r, clX[ci]? = some r ∧ t_OB (tp σ) (D.1 ci) r.2.2 (D.2 ci) H1 (xV (nO σ t m9 k9) ci (tp σ))) (hAr : ∀ t', t = 100 + t' → t' < 5 → H1[tp σ]? = some (vp_cell (cx t') (xC (nO σ t m9 k9) t' (tp σ)))) (ht : (1 ≤ t ∧ t ≤ 15) ∨ (100 ≤ t ∧ t < 105)) (hlim : lim TL SL (nO σ t m9 k9)) :
    xInv D cx ro A s TL SL t0 s0 (nO σ t m9 k9) H1 locs (cs + 1) (sl9 + k9) := by
  obtain ⟨⟨g1, g2, g3, g4, g5, g6, g7⟩, hS, hcs, hsl, hlm⟩ := hI
  have hself : tg (nO σ t m9 k9) (tp σ) = t := if_pos rfl
  have hold : ∀ x, x ≠ tp σ → tg (nO σ t m9 k9) x = tg σ x := fun x hx => if_neg hx
  have hlnO : ∀ x, x ≠ tp σ → ln (nO σ t m9 k9) x = ln σ x := fun x hx => if_neg hx
  have haIO : ∀ x, x ≠ tp σ → aI (nO σ t m9 k9) x = aI σ x := fun x hx => funext fun i => if_neg hx
  have haRO : ∀ x, x ≠ tp σ → aR (nO σ t m9 k9) x = aR σ x := fun x hx => funext fun i => if_neg hx
  have hVO : ∀ cj x j, x ≠ tp σ → xV (nO σ t m9 k9) cj x j = xV σ cj x j := fun cj x j hx => by
    simp [xV, fI, fL, fR, nO, hx]
  have hlt : ∀ (x : Nat) (ce : Cell), H[x]? = some ce → x < H.size := fun x ce h => (Array.getElem?_eq_some_iff.mp h).1
  refine ⟨⟨by rw [z, g1]; rfl, fun x cj hx hcj => ?_, fun x t' hx htt => ?_, fun x t' hx htt => ?_, fun x j hx hj => ?_, fun x i hx hi => ?_, fun x hx => g7 x (by have : tp (nO σ t m9 k9) = tp σ + 1 := rfl; omega)⟩, ⟨Nat.le_trans hS.1 (by omega), fun x h1 h2 => (oq x (Nat.lt_of_lt_of_le h1 hS.1)).trans (hS.2.1 x h1 h2), hS.2.2⟩, by show cs + 1 + t0 = tp σ + 1; omega, by show sl9 + k9 + s0 = sn σ + k9; omega, hlim⟩
  · by_cases hxq : x = tp σ
    · subst hxq
      rw [hself] at hx
      exact ⟨hO cj hx hcj, g7 _ (Nat.le_refl _)⟩
    · rw [hold x hxq] at hx
      obtain ⟨⟨r', k1, k2⟩, k3⟩ := g2 x cj hx hcj
      have hxl : x < H.size := by
        obtain ⟨cell, q1, -⟩ := k2
        exact hlt x cell q1
      exact ⟨⟨r', k1, t_OB.to (k2.kept (oq x hxl)) (fun j _ => (hVO cj x j hxq).symm)⟩, k3⟩
  · by_cases hxq : x = tp σ
    · subst hxq
      rw [hself] at hx
      exact ⟨hAr t' hx htt, g7 _ (Nat.le_refl _)⟩
    · rw [hold x hxq] at hx
      obtain ⟨k1, k2⟩ := g3 x t' hx htt
      refine ⟨?_, k2⟩
      rw [oq x (hlt x _ k1), k1]
      unfold xC
      rw [hlnO x hxq, haIO x hxq, haRO x hxq]
  · by_cases hxq : x = tp σ
    · subst hxq
      rw [hself] at hx
      omega
    · rw [hold x hxq] at hx
      obtain ⟨cell, k1, k2, k3, k4, k5⟩ := g4 x t' hx htt
      exact ⟨cell, by rw [oq x (hlt x _ k1)]; exact k1, k2, k3, by rw [hlnO x hxq]; exact k4, fun i hi => by rw [haRO x hxq]; exact k5 i (by rw [← hlnO x hxq]; exact hi)⟩
  · by_cases hxq : x = tp σ
    · subst hxq
      rw [hself] at hx
      omega
    · rw [hold x hxq] at hx
      obtain ⟨cell, k1, k2, k3⟩ := g5 x j hx hj
      exact ⟨cell, by rw [oq x (hlt x _ k1)]; exact k1, k2, k3⟩
  · by_cases hxq : x = tp σ
    · subst hxq
      rw [hself] at hx
      omega
    · rw [hold x hxq] at hx
      exact g6 x i hx hi
theorem x_newO {α : Type} {res : α} {ci index N : Nat} {C : String} {kf : Option Nat → XS → Option α} (X : XX p m c cc nL s args meth D cx ro A ret own) (hR : R.cells = TL - t0 ∧ R.slots = SL - s0) (hF : nwO TL SL σ (ci + 1) N kf = some res) (hc : ∃ T, clX[ci]? = some (C, T, N)) (hq1 : Cond.classLink own index C ∈ lw_all) (hq2 : Cond.instantiable C N ∈ lw_all) (hq3 : Cond.initialized C ∈ lw_all) (ha : agW true w σ0 σ) (d : decode cc pc = .ok (.new index, 3))
    (kk : ∀ q σ1, kf (some q) σ1 = some res → agW true w σ0 σ1 → GW p l e R s m args below meth c Q (xInv D cx ro A s TL SL t0 s0 σ1) (F0 m (pc + 3) ls (.ref q :: rest))) : GW p l e R s m args below meth c Q (xInv D cx ro A s TL SL t0 s0 σ) (F0 m pc ls rest) := by
  intro H locs cs sl9 hI
  obtain ⟨T, hc⟩ := hc
  simp only [nwO] at hF
  split at hF
  · rename_i hroom
    have hci : ci < 15 := (List.getElem?_eq_some_iff.mp hc).1
    obtain ⟨hin, ⟨ty, hty, hdf⟩, -⟩ := clX_ok ci _ hc
    have hKn := X.k.1.1 ci _ hc
    have e1 := hI.2.2.1
    have e2 := hI.2.2.2.1
    refine W.newcK X.gx.hx X.gx.hb X.gx.hown (X.gx.hts _ hq1) (X.gx.hts _ hq2) (X.gx.hts _ hq3) rfl d (by omega) (by omega) hKn.2.1 rfl fun H1 kC hkC f1 z1 o1 => ?_
    have hsz : H.size = tp σ := hI.1.1
    have hb := u_born ty X.gx.hts hin hKn hkC f1 hty
    rw [hsz] at hb
    have h9 : GW p l e R s m args below meth c Q (xInv D cx ro A s TL SL t0 s0 (nO σ (ci + 1) 0 N)) (F0 m (pc + 3) ls (.ref (tp σ) :: rest)) := kk _ _ hF ha.mk9
    rw [← hsz] at h9
    refine h9 H1 locs (cs + 1) (sl9 + N) (x_made hI z1 o1 (fun cj h1 h2 => ?_) (fun t' h1 h2 => by omega) (by omega) hroom)
    have : cj = ci := by omega
    subst this
    refine ⟨_, hc, hb.to (fun k hk => ?_)⟩
    rw [hdf k hk]
    have g1 : ∀ g, fI (nO σ (cj + 1) 0 N) g (tp σ) = 0 := fun g => if_pos rfl
    have g2 : ∀ g, fL (nO σ (cj + 1) 0 N) g (tp σ) = 0 := fun g => if_pos rfl
    have g3 : ∀ g, fR (nO σ (cj + 1) 0 N) g (tp σ) = none := fun g => if_pos rfl
    unfold xV kdef
    rw [g1, g2, g3]
    split <;> rfl
  · cases hF
theorem x_newA {α : Type} {res : α} {t : Nat} {atype : ArrayType} {ty : FieldType} {n9 : Int32} {kf : Option Nat → XS → Option α} (X : XX p m c cc nL s args meth D cx ro A ret own) (hR : R.cells = TL - t0 ∧ R.slots = SL - s0) (hF : nwA TL SL σ (100 + t) n9 kf = some res) (ht2 : t < 2) (hty : newarray.typeOf atype = ty) (hcx : (tysX cx)[t]? = some (cx t, ty)) (hd0 : defaultValue ty = .int 0) (hcb : Nat.ble (componentBytes ty) 8 = true) (hra : va_RA s (cx t) ty → s.vm.findClass ("[" ++ ty.toString) = some (cx t)) (hq : Cond.arrayClass ty ∈ lw_all) (ha : agW true w σ0 σ) (d : decode cc pc = .ok (.newarray atype, 2))
    (kk : ∀ q σ1, kf (some q) σ1 = some res → agW true w σ0 σ1 → GW p l e R s m args below meth c Q (xInv D cx ro A s TL SL t0 s0 σ1) (F0 m (pc + 2) ls (.ref q :: rest))) : GW p l e R s m args below meth c Q (xInv D cx ro A s TL SL t0 s0 σ) (F0 m pc ls (.int n9 :: rest)) := by
  intro H locs cs sl9 hI
  subst hty
  simp only [nwA] at hF
  split at hF
  · rename_i hroom
    obtain ⟨r1, r2, r3, r4⟩ := hroom
    have e1 := hI.2.2.1
    have e2 := hI.2.2.2.1
    have hn0 : ¬ n9 < 0 := fun h => by
      rw [Int32.le_iff_toInt_le] at r1
      rw [Int32.lt_iff_toInt_lt] at h
      omega
    have hcb := Nat.le_of_ble_eq_true hcb
    have hby : n9.toNatClampNeg * componentBytes (newarray.typeOf atype) ≤ 536870912 := Nat.le_trans (Nat.mul_le_mul r2 hcb) (by decide)
    have hsz : H.size = tp σ := hI.1.1
    refine va_newaK X.gx.hx X.gx.hb (X.gx.hts _ hq) rfl d rfl hn0 rfl hby (by omega) (by omega) hsz fun H1 cA f1 z1 o1 hAr hNm => ?_
    have hcA : cA = cx t := Option.some.inj (hNm.symm.trans (hra (X.k.1.2 t _ hcx).2))
    subst hcA
    refine kk _ _ hF ha.mk9 H1 locs (cs + 1) (sl9 + n9.toNatClampNeg) (x_made hI (by rw [z1, hsz]) (fun x hx => o1 x (by omega)) (fun cj h1 h2 => by omega) (fun t' h1 h2 => ?_) (by omega) ⟨r3, r4⟩)
    have : t' = t := by omega
    subst this
    have e4 : xC (nO σ (100 + t') n9.toNatClampNeg n9.toNatClampNeg) t' (tp σ) = (n9.toNatClampNeg, .inl (fun _ => 0)) := by
      have g1 : ln (nO σ (100 + t') n9.toNatClampNeg n9.toNatClampNeg) (tp σ) = n9.toNatClampNeg := if_pos rfl
      have g2 : aI (nO σ (100 + t') n9.toNatClampNeg n9.toNatClampNeg) (tp σ) = fun _ => 0 := funext fun i => if_pos rfl
      unfold xC
      rw [g1, g2, if_pos ht2]
    rw [e4, vp_cell_i, f1, hd0]
  · cases hF
theorem x_anew {α : Type} {res : α} {t index : Nat} {C : String} {n9 : Int32} {kf : Option Nat → XS → Option α} (X : XX p m c cc nL s args meth D cx ro A ret own) (hR : R.cells = TL - t0 ∧ R.slots = SL - s0) (hF : nwA TL SL σ (100 + t) n9 kf = some res) (ht2 : 2 ≤ t ∧ t < 5) (hcx : (tysX cx)[t]? = some (cx t, .object C)) (hq1 : Cond.classLink own index C ∈ lw_all) (hao : va_AO C s) (ha : agW true w σ0 σ) (d : decode cc pc = .ok (.anewarray index, 3))
    (kk : ∀ q σ1, kf (some q) σ1 = some res → agW true w σ0 σ1 → GW p l e R s m args below meth c Q (xInv D cx ro A s TL SL t0 s0 σ1) (F0 m (pc + 3) ls (.ref q :: rest))) : GW p l e R s m args below meth c Q (xInv D cx ro A s TL SL t0 s0 σ) (F0 m pc ls (.int n9 :: rest)) := by
  intro H locs cs sl9 hI
  simp only [nwA] at hF
  split at hF
  · rename_i hroom
    obtain ⟨r1, r2, r3, r4⟩ := hroom
    have e1 := hI.2.2.1
    have e2 := hI.2.2.2.1
    have hn0 : ¬ n9 < 0 := fun h => by
      rw [Int32.le_iff_toInt_le] at r1
      rw [Int32.lt_iff_toInt_lt] at h
      omega
    have hby : n9.toNatClampNeg * 4 ≤ 536870912 := Nat.le_trans (Nat.mul_le_mul_right 4 r2) (by decide)
    have hsz : H.size = tp σ := hI.1.1
    refine W.anew X.gx.hx X.gx.hb X.gx.hown (X.gx.hts _ hq1) (va_AO.use hao) rfl d rfl hn0 hby (by omega) (by omega) fun cA kA comp f1 f2 f3 f4 => ?_
    obtain ⟨kA', comp', k1, k2, k3, k4⟩ := (X.k.1.2 t _ hcx).2
    have hcA : cA = cx t := Option.some.inj (f1.symm.trans k4)
    subst hcA
    generalize hH1 : H.push ({ cls := cx t, slots := Array.replicate n9.toNatClampNeg .null, vm := .none } : Cell) = H1
    have z1 : H1.size = H.size + 1 := by rw [← hH1, Array.size_push]
    have g1 : H1[H.size]? = some (arrV (cx t) n9.toNatClampNeg (fun _ => .null)) := by rw [← hH1, Array.getElem?_push_size, ← arrV_new]
    have o1 : ∀ q : Nat, q < H.size → H1[q]? = H[q]? := fun q hq => by rw [← hH1, Array.getElem?_push, if_neg (Nat.ne_of_lt hq)]
    rw [hsz] at g1
    have h9 : GW p l e R s m args below meth c Q (xInv D cx ro A s TL SL t0 s0 (nO σ (100 + t) n9.toNatClampNeg n9.toNatClampNeg)) (F0 m (pc + 3) ls (.ref (tp σ) :: rest)) := kk _ _ hF ha.mk9
    rw [← hsz] at h9
    refine h9 H1 locs (cs + 1) (sl9 + n9.toNatClampNeg) (x_made hI z1 o1 (fun cj h1 h2 => by omega) (fun t' h1 h2 => ?_) (by omega) ⟨r3, r4⟩)
    have : t' = t := by omega
    subst this
    have e4 : xC (nO σ (100 + t') n9.toNatClampNeg n9.toNatClampNeg) t' (tp σ) = (n9.toNatClampNeg, .inr (.inr (.inr (.inr (fun _ => none))))) := by
      have q1 : ln (nO σ (100 + t') n9.toNatClampNeg n9.toNatClampNeg) (tp σ) = n9.toNatClampNeg := if_pos rfl
      have q2 : aR (nO σ (100 + t') n9.toNatClampNeg n9.toNatClampNeg) (tp σ) = fun _ => none := funext fun i => if_pos rfl
      unfold xC
      rw [q1, q2, if_neg (by omega)]
    rw [e4, vp_cell_q, g1]
    rfl
  · cases hF
/-! calls -/
theorem x_back {n2 : Bool} {wY : XW} {a : Array Value} (hr : va_Run p l e R s m args below meth c H locs cells slots (tp τ - tp σ) (sn τ - sn σ) (F0 m pc ls st) rest (xQ D cx ro A TL SL n2 wY σ o τ a) A) (hI : xInv D cx ro A s TL SL t0 s0 σ H locs cells slots)
    (kk : agW n2 wY σ τ → GW p l e R s m args below meth c Q (xInv D cx ro A s TL SL t0 s0 τ) (F0 m (pc + 3) ls (o.toList ++ rest))) : W p l e R s m args below meth c H locs cells slots Q (F0 m pc ls st) := by
  intro T hT X9
  obtain ⟨v, st₀, t, T', L, h0, X', hL, e1, e2, ⟨hv, hP, ha, hlm, hz, hk⟩, st9⟩ := hr T hT X9
  cases hv
  rw [h0] at hz hk
  have hal : t.vm.Alike s.vm := by rw [← e2]; exact X'.warmed.alike.symm
  have hP2 := hP.moved hal
  rw [← e1] at hP2 hz
  have hle := ha.le
  obtain ⟨-, hS, hcs, hsl, -⟩ := hI
  obtain ⟨t2, a1, b1⟩ := kk ha T'.heap (locs ++ L) (cells + (tp τ - tp σ)) (slots + (sn τ - sn σ)) ⟨hP2, m_SF hS hz (fun q h1 h2 => by rw [e1]; exact hk q h1 h2) hL, by omega, by omega, hlm⟩ T' rfl X'
  exact ⟨t2, st9 t2 a1, b1⟩
theorem x_pre {C : String} {ci q : Nat} {r : vw_C} {As : List Value} {cs sl9 : Nat} (X : XX p m c cc nL s args meth D cx ro A ret own) (hI : xInv D cx ro A s TL SL t0 s0 σ H locs cs sl9) (ht : tg σ q = ci + 1) (hc : clX[ci]? = some r) (hC : r.1 = C) : PreV s H C q (va_Pc (.ref q :: As) (fun U => xHR D cx ro A U σ U.heap ∧ xK D cx ro A U ∧ lim TL SL σ)) As := by
  obtain ⟨⟨cell, g1, g2, g3, -⟩, -⟩ := x_obj hI ht hc
  exact ⟨x_blind, ⟨cell, g1, by rw [g3]; rfl, by rw [← hC, g2]; exact (X.k.1.1 ci _ hc).2.1⟩, fun U hU hW => ⟨rfl, xHR.moved hW.alike (by rw [hU]; exact hI.1), xK.start hW hU hI.2.1 X.k, hI.2.2.2.2⟩⟩
theorem x_preS {As : List Value} {cs sl9 : Nat} (X : XX p m c cc nL s args meth D cx ro A ret own) (hI : xInv D cx ro A s TL SL t0 s0 σ H locs cs sl9) : PreS s H (va_Pc As (fun U => xHR D cx ro A U σ U.heap ∧ xK D cx ro A U ∧ lim TL SL σ)) As :=
  ⟨x_blind, fun U hU hW => ⟨rfl, xHR.moved hW.alike (by rw [hU]; exact hI.1), xK.start hW hU hI.2.1 X.k, hI.2.2.2.2⟩⟩
theorem x_fit {dY maxL : Nat} {cs sl9 : Nat} (hI : xInv D cx ro A s TL SL t0 s0 σ H locs cs sl9) (hR : R.cells = TL - t0 ∧ R.slots = SL - s0) : cs + (xRoom dY (TL - tp σ) (SL - sn σ)).cells ≤ R.cells ∧ sl9 + (xRoom dY (TL - tp σ) (SL - sn σ)).slots ≤ R.slots := by
  obtain ⟨-, -, h1, h2, h3, h4⟩ := hI
  show cs + (TL - tp σ) ≤ R.cells ∧ sl9 + (SL - sn σ) ≤ R.slots
  omega
theorem x_RR {d dY maxL a b a' b' : Nat} (h1 : Nat.ble (dY + 1) d = true) (h2 : Nat.ble maxL 41 = true) : (xRoom dY a b).frames + 1 ≤ (xRoom d a' b').frames ∧ 8 + (maxL + 11) + (xRoom dY a b).locals ≤ (xRoom d a' b').locals := by
  have h1 := Nat.le_of_ble_eq_true h1
  have h2 := Nat.le_of_ble_eq_true h2
  show dY + 1 ≤ d ∧ 8 + (maxL + 11) + 60 * dY ≤ 60 * d
  omega
theorem c5_len {y : MethodName} {nY : Nat} (c5 : (parseMethodDescriptor y.desc).map (fun d => d.parameters.length) = some nY) : ∀ sig, parseMethodDescriptor y.desc = some sig → nY = sig.parameters.length := fun sig h => by
  rw [h] at c5
  exact (Option.some.inj c5).symm
theorem x_bk {y : MethodName} {bytes : ByteArray} {maxL mc ms : Nat} {ret2 : Option FieldType} {rm : Room} {Pc : Array Value → State → Prop} {Qc : Array Value → State → Outcome → State → Prop} {free : Addr → Prop} (S : CallFix p m c cc nL s args lw_all own) (hM : Met l y (ws_ y bytes maxL ret2) rm Pc Qc mc ms free) (hbl : FrameBlind Pc) (c3 : Cond.initialized y.cls ∈ lw_all) (c4 : Cond.code y bytes maxL ret2 ∈ lw_all)
    (hR : rm.frames + 1 ≤ R.frames ∧ 8 + (maxL + 11) + rm.locals ≤ R.locals) : Back l R p e below s args y 3 8 (PreX R rm Pc) (PostOf Qc mc ms free) :=
  x_backOf (bytes := bytes) (maxL := maxL) (ret := ret2) hM hbl hR.1 hR.2 (pay_in S.2.2.2.2 (lw_meth c4)) List.mem_cons_self (fun a' U hW => word_at hW (Or.inl (by first | rfl | simp [Cond.onTables, Cond.keeps, Cond.steady])) (S.2.2.2.2 _ c3))
theorem x_runS {y : MethodName} {bytes : ByteArray} {maxL mc ms nY index : Nat} {ret2 : Option FieldType} {rm : Room} {Pc : Array Value → State → Prop} {Qc : Array Value → State → Outcome → State → Prop} {free : Addr → Prop} {As : List Value} {g : JFrame}
    (S : CallFix p m c cc nL s args lw_all own) (hM : Met l y (ws_ y bytes maxL ret2) rm Pc Qc mc ms free) (hlink : Cond.methodLink own index y ∈ lw_all) (cp : cpS y bytes maxL ret2 nY)
    (hR : rm.frames + 1 ≤ R.frames ∧ 8 + (maxL + 11) + rm.locals ≤ R.locals) (hp : PreS s H Pc As)
    (hg : g.method = m) (hn : As.length = nY) (hsize : g.locals.size = nL) (hstack : g.stack = As.reverse ++ rest) (hW : 2 * g.monitorRoom + (rest.map fun v => v.category).sum ≤ 8) (hdg : decode cc g.pc = .ok (.invokestatic index, 3)) (hf : cells + rm.cells ≤ R.cells ∧ slots + rm.slots ≤ R.slots) :
    va_Run p l e R s m args below meth c H locs cells slots mc ms g rest (Qc As.toArray) (free) := by
  obtain ⟨c1, c3, c4, c5⟩ := cp
  have hK := x_bk (R := R) (e := e) (below := below) S hM hp.1 c3 c4 hR
  obtain ⟨hx, hb, hml, ho, hts⟩ := S
  intro T hT X
  obtain ⟨v, vm₁, ⟨U', l2, k2, s2⟩, hW₁, X', ⟨g', mk, t, L, e1, e2, hq, h1, hL, h2, h3⟩, st⟩ := callS X hx (bytes := bytes) (maxL := maxL) (ret := ret2) ho (hts _ hlink) (hts _ c1) (hts _ c3) (hts _ c4) ⟨c5.1, c5.2.1⟩ hK hg (hsize.trans hml.symm) (argsL := As) (rest := rest) (fun sig h => hn.trans (c5_len c5.2.2 sig h)) hstack hW (by rw [hb]; exact hdg)
    (fun vm₁ hW₁ => ⟨hf.1, hf.2, hp.2 (T.setVm vm₁) hT hW₁⟩)
  dsimp only [Pt.U, Pt.locs, Pt.cells, Pt.slots] at X' e1 e2 h1 h2 h3 st
  subst h1; subst h2; subst h3
  exact ⟨v, (T.setVm vm₁).calling g' mk As.toArray, t, U', L, hT, X', hL, e1, e2, hq, st⟩
theorem x_runSN {y : MethodName} {bytes : ByteArray} {maxL mc ms nY index : Nat} {ret2 : Option FieldType} {rm : Room} {Pc : Array Value → State → Prop} {Qc : Array Value → State → Outcome → State → Prop} {free : Addr → Prop} {As : List Value} {g : JFrame} {host : String}
    (S : CallFix p m c cc nL s args lw_all own) (hM : Met l y (ws_ y bytes maxL ret2) rm Pc Qc mc ms free) (hlink : va_Nw (.methodLinkNest own index y host) s) (cp : cpS y bytes maxL ret2 nY)
    (hR : rm.frames + 1 ≤ R.frames ∧ 8 + (maxL + 11) + rm.locals ≤ R.locals) (hp : PreS s H Pc As)
    (hg : g.method = m) (hn : As.length = nY) (hsize : g.locals.size = nL) (hstack : g.stack = As.reverse ++ rest) (hW : 2 * g.monitorRoom + (rest.map fun v => v.category).sum ≤ 8) (hdg : decode cc g.pc = .ok (.invokestatic index, 3)) (hf : cells + rm.cells ≤ R.cells ∧ slots + rm.slots ≤ R.slots) :
    va_Run p l e R s m args below meth c H locs cells slots mc ms g rest (Qc As.toArray) (free) := by
  obtain ⟨c1, c3, c4, c5⟩ := cp
  have hK := x_bk (R := R) (e := e) (below := below) S hM hp.1 c3 c4 hR
  obtain ⟨hx, hb, hml, ho, hts⟩ := S
  intro T hT X
  obtain ⟨v, vm₁, ⟨U', l2, k2, s2⟩, hW₁, X', ⟨g', mk, t, L, e1, e2, hq, h1, hL, h2, h3⟩, st⟩ := va_callSN X hx (bytes := bytes) (maxL := maxL) (ret := ret2) ho (va_Nw.use rfl hlink) (hts _ c1) (hts _ c3) (hts _ c4) ⟨c5.1, c5.2.1⟩ hK hg (hsize.trans hml.symm) (argsL := As) (rest := rest) (fun sig h => hn.trans (c5_len c5.2.2 sig h)) hstack hW (by rw [hb]; exact hdg)
    (fun vm₁ hW₁ => ⟨hf.1, hf.2, hp.2 (T.setVm vm₁) hT hW₁⟩)
  dsimp only [Pt.U, Pt.locs, Pt.cells, Pt.slots] at X' e1 e2 h1 h2 h3 st
  subst h1; subst h2; subst h3
  exact ⟨v, (T.setVm vm₁).calling g' mk As.toArray, t, U', L, hT, X', hL, e1, e2, hq, st⟩
def cpI (y : MethodName) (b : ByteArray) (maxL : Nat) (nY : Nat) : Prop := y.name = "<init>" ∧ Cond.instanceMethod y ∈ lw_all ∧ Cond.initialized y.cls ∈ lw_all ∧ Cond.code y b maxL none ∈ lw_all ∧ (y.cls ≠ "java/lang/invoke/MethodHandle" ∧ y.cls ≠ "java/lang/invoke/VarHandle" ∧ (parseMethodDescriptor y.desc).map (fun d => d.parameters.length) = some nY)
theorem x_runI {y : MethodName} {bytes : ByteArray} {maxL mc ms nY index b : Nat} {rm : Room} {Pc : Array Value → State → Prop} {Qc : Array Value → State → Outcome → State → Prop} {free : Addr → Prop} {As : List Value} {g : JFrame}
    (S : CallFix p m c cc nL s args lw_all own) (hM : Met l y (ws_ y bytes maxL none) rm Pc Qc mc ms free) (hlink : Cond.methodLink own index y ∈ lw_all) (cp : cpI y bytes maxL nY)
    (hR : rm.frames + 1 ≤ R.frames ∧ 8 + (maxL + 11) + rm.locals ≤ R.locals) (hp : PreS s H Pc (.ref b :: As))
    (hg : g.method = m) (hn : As.length = nY) (hsize : g.locals.size = nL) (hstack : g.stack = As.reverse ++ .ref b :: rest) (hW : 2 * g.monitorRoom + (rest.map fun v => v.category).sum ≤ 8) (hdg : decode cc g.pc = .ok (.invokespecial index, 3)) (hf : cells + rm.cells ≤ R.cells ∧ slots + rm.slots ≤ R.slots) :
    va_Run p l e R s m args below meth c H locs cells slots mc ms g rest (Qc (Value.ref b :: As).toArray) (free) := by
  obtain ⟨c0, c1, c3, c4, c5⟩ := cp
  have hK := x_bk (R := R) (e := e) (below := below) S hM hp.1 c3 c4 hR
  obtain ⟨hx, hb, hml, ho, hts⟩ := S
  intro T hT X
  obtain ⟨v, vm₁, ⟨U', l2, k2, s2⟩, hW₁, X', ⟨g', mk, t, L, e1, e2, hq, h1, hL, h2, h3⟩, st⟩ := callI X hx (bytes := bytes) (maxL := maxL) ho c0 (hts _ hlink) (hts _ c1) (hts _ c4) ⟨c5.1, c5.2.1⟩ hK hg (hsize.trans hml.symm) (a := b) (argsL := As) (rest := rest) (fun sig h => hn.trans (c5_len c5.2.2 sig h)) hstack hW (by rw [hb]; exact hdg)
    (fun vm₁ hW₁ => ⟨hf.1, hf.2, hp.2 (T.setVm vm₁) hT hW₁⟩)
  dsimp only [Pt.U, Pt.locs, Pt.cells, Pt.slots] at X' e1 e2 h1 h2 h3 st
  subst h1; subst h2; subst h3
  exact ⟨v, (T.setVm vm₁).calling g' mk (Value.ref b :: As).toArray, t, U', L, hT, X', hL, e1, e2, hq, st⟩
theorem x_runIN {y : MethodName} {bytes : ByteArray} {maxL mc ms nY index b : Nat} {rm : Room} {Pc : Array Value → State → Prop} {Qc : Array Value → State → Outcome → State → Prop} {free : Addr → Prop} {As : List Value} {g : JFrame} {host : String}
    (S : CallFix p m c cc nL s args lw_all own) (hM : Met l y (ws_ y bytes maxL none) rm Pc Qc mc ms free) (hlink : va_Nw (.methodLinkNest own index y host) s) (cp : cpI y bytes maxL nY)
    (hR : rm.frames + 1 ≤ R.frames ∧ 8 + (maxL + 11) + rm.locals ≤ R.locals) (hp : PreS s H Pc (.ref b :: As))
    (hg : g.method = m) (hn : As.length = nY) (hsize : g.locals.size = nL) (hstack : g.stack = As.reverse ++ .ref b :: rest) (hW : 2 * g.monitorRoom + (rest.map fun v => v.category).sum ≤ 8) (hdg : decode cc g.pc = .ok (.invokespecial index, 3)) (hf : cells + rm.cells ≤ R.cells ∧ slots + rm.slots ≤ R.slots) :
    va_Run p l e R s m args below meth c H locs cells slots mc ms g rest (Qc (Value.ref b :: As).toArray) (free) := by
  obtain ⟨c0, c1, c3, c4, c5⟩ := cp
  have hK := x_bk (R := R) (e := e) (below := below) S hM hp.1 c3 c4 hR
  obtain ⟨hx, hb, hml, ho, hts⟩ := S
  intro T hT X
  obtain ⟨v, vm₁, ⟨U', l2, k2, s2⟩, hW₁, X', ⟨g', mk, t, L, e1, e2, hq, h1, hL, h2, h3⟩, st⟩ := va_callIN X hx (bytes := bytes) (maxL := maxL) ho c0 (va_Nw.use rfl hlink) (hts _ c1) (hts _ c4) ⟨c5.1, c5.2.1⟩ hK hg (hsize.trans hml.symm) (a := b) (argsL := As) (rest := rest) (fun sig h => hn.trans (c5_len c5.2.2 sig h)) hstack hW (by rw [hb]; exact hdg)
    (fun vm₁ hW₁ => ⟨hf.1, hf.2, hp.2 (T.setVm vm₁) hT hW₁⟩)
  dsimp only [Pt.U, Pt.locs, Pt.cells, Pt.slots] at X' e1 e2 h1 h2 h3 st
  subst h1; subst h2; subst h3
  exact ⟨v, (T.setVm vm₁).calling g' mk (Value.ref b :: As).toArray, t, U', L, hT, X', hL, e1, e2, hq, st⟩
end XRows
