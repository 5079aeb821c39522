/-! THE LEVEL OF OBJECTS: what the objects hold; strings, lists, builders and rows that grow as whole values -/
set_option maxRecDepth 100000
/-- an object: its kind, what it holds, its capacity, one thing more -/
abbrev Cl : Type := Nat × List Int × Int × Int
/-- the objects by their addresses; which of them are frozen; below what they lie -/
abbrev Th : Type := (Int → Cl) × (Int → Prop) × Int
abbrev xo (Θ : Th) (a : Int) : Cl := Θ.1 a
abbrev kd (Θ : Th) (a : Int) : Nat := (Θ.1 a).1
abbrev vv (Θ : Th) (a : Int) : List Int := (Θ.1 a).2.1
abbrev cp (Θ : Th) (a : Int) : Int := (Θ.1 a).2.2.1
abbrev cx (Θ : Th) (a : Int) : Int := (Θ.1 a).2.2.2
abbrev fz (Θ : Th) (a : Int) : Prop := Θ.2.1 a
abbrev nt (Θ : Th) : Int := Θ.2.2
def uq (Θ : Th) (a : Int) (c : Cl) : Th := (fun b => if b = a then c else Θ.1 b, Θ.2.1, Θ.2.2)
def nu (Θ : Th) (a : Int) (c : Cl) : Th := (fun b => if b = a then c else Θ.1 b, Θ.2.1, a + 1)
/-- a place of an object takes a value -/
def pf (Θ : Th) (a k x : Int) : Th := uq Θ a (kd Θ a, (vv Θ a).set k.toNat x, cp Θ a, cx Θ a)
/-- objects are frozen -/
def fr (Θ : Th) (A : Int → Prop) : Th := (Θ.1, fun a => Θ.2.1 a ∨ A a ∧ 0 < (Θ.1 a).1 ∧ (Θ.1 a).1 < 200, Θ.2.2)
section TH
variable {Θ Θ1 Θ2 Θ3 : Th} {a b k x i : Int} {c c' : Cl}
theorem xo_up : xo (uq Θ a c) b = if b = a then c else xo Θ b := rfl
theorem xo_upA : xo (uq Θ a c) a = c := if_pos rfl
theorem xo_upN (h : b ≠ a) : xo (uq Θ a c) b = xo Θ b := if_neg h
theorem xo_nu : xo (nu Θ a c) b = if b = a then c else xo Θ b := rfl
theorem xo_nuA : xo (nu Θ a c) a = c := if_pos rfl
theorem xo_nuN (h : b ≠ a) : xo (nu Θ a c) b = xo Θ b := if_neg h
theorem xo_pfA : xo (pf Θ a k x) a = (kd Θ a, (vv Θ a).set k.toNat x, cp Θ a, cx Θ a) := if_pos rfl
theorem xo_pfN (h : b ≠ a) : xo (pf Θ a k x) b = xo Θ b := if_neg h
theorem kd_pf : kd (pf Θ a k x) b = kd Θ b := by
  unfold pf kd uq
  by_cases h : b = a
  · subst h; simp
  · simp [h]
theorem fz_up : fz (uq Θ a c) b = fz Θ b := rfl
theorem fz_nu : fz (nu Θ a c) b = fz Θ b := rfl
theorem fz_pf : fz (pf Θ a k x) b = fz Θ b := rfl
theorem nt_up : nt (uq Θ a c) = nt Θ := rfl
theorem nt_nu : nt (nu Θ a c) = a + 1 := rfl
theorem nt_pf : nt (pf Θ a k x) = nt Θ := rfl
/-- a row that grows is cut short -/
def pm (Θ : Th) (a x : Int) : Th := uq Θ a (kd Θ a, (vv Θ a).take x.toNat, cp Θ a, cx Θ a)
theorem xo_pmA : xo (pm Θ a x) a = (kd Θ a, (vv Θ a).take x.toNat, cp Θ a, cx Θ a) := if_pos rfl
theorem xo_pmN (h : b ≠ a) : xo (pm Θ a x) b = xo Θ b := if_neg h
theorem kd_pm : kd (pm Θ a x) b = kd Θ b := by
  unfold pm kd uq
  by_cases h : b = a
  · subst h; simp
  · simp [h]
/-- what lasts: frozen objects, kinds (but of objects that are not yet made) -/
def Le (Θ Θ' : Th) : Prop := (∀ a, fz Θ a → fz Θ' a ∧ xo Θ' a = xo Θ a) ∧ (∀ a, 0 < kd Θ a → kd Θ a < 200 → kd Θ' a = kd Θ a) ∧ nt Θ ≤ nt Θ'
theorem Le.rf : Le Θ Θ := ⟨fun _ h => ⟨h, rfl⟩, fun _ _ _ => rfl, Int.le_refl _⟩
theorem Le.tr (h : Le Θ Θ1) (h2 : Le Θ1 Θ2) : Le Θ Θ2 :=
  ⟨fun a ha => ⟨(h2.1 a (h.1 a ha).1).1, (h2.1 a (h.1 a ha).1).2.trans (h.1 a ha).2⟩,
   fun a h0 h1 => (h2.2.1 a (by rw [h.2.1 a h0 h1]; exact h0) (by rw [h.2.1 a h0 h1]; exact h1)).trans (h.2.1 a h0 h1), Int.le_trans h.2.2 h2.2.2⟩
theorem Le.up (hf : ¬ fz Θ a) (hk : kd Θ a < 200 → c.1 = kd Θ a) : Le Θ (uq Θ a c) :=
  ⟨fun b hb => ⟨hb, xo_upN (fun e => hf (e ▸ hb))⟩, fun b _ h1 => by
    by_cases h : b = a
    · subst h; show (xo (uq Θ b c) b).1 = _; rw [xo_upA]; exact hk h1
    · show (xo (uq Θ a c) b).1 = _; rw [xo_upN h], Int.le_refl _⟩
theorem Le.pm (hf : ¬ fz Θ a) : Le Θ (pm Θ a x) := Le.up hf (fun _ => rfl)
theorem Le.pf (hf : ¬ fz Θ a) : Le Θ (pf Θ a k x) := Le.up hf (fun _ => rfl)
/-- all objects lie below nt; frozen ones are objects -/
def Bl (Θ : Th) : Prop := (∀ b, 0 < kd Θ b → 0 ≤ b ∧ b < nt Θ) ∧ ∀ b, fz Θ b → 0 < kd Θ b ∧ kd Θ b < 200
theorem Bl.new (h : Bl Θ) (ha : nt Θ ≤ a) : kd Θ a = 0 ∧ ¬ fz Θ a :=
  ⟨Nat.eq_zero_of_not_pos (fun z => by have := (h.1 a z).2; omega), fun z => by have := (h.1 a (h.2 a z).1).2; omega⟩
theorem Le.nuw (h : Bl Θ) (ha : nt Θ ≤ a) : Le Θ (nu Θ a c) :=
  ⟨fun b hb => ⟨hb, xo_nuN (fun e => (h.new ha).2 (e ▸ hb))⟩, fun b h0 _ => by
    show (xo (nu Θ a c) b).1 = _
    rw [xo_nuN (fun e => by rw [e, (h.new ha).1] at h0; omega)], by show nt Θ ≤ a + 1; omega⟩
theorem Le.fr {A : Int → Prop} : Le Θ (fr Θ A) := ⟨fun _ h => ⟨Or.inl h, rfl⟩, fun _ _ _ => rfl, Int.le_refl _⟩
theorem Le.kdk (h : Le Θ Θ1) {t : Nat} (hk : kd Θ a = t) (h0 : 0 < t ∧ t < 200) : kd Θ1 a = t := (h.2.1 a (by omega) (by omega)).trans hk
/-- a frozen object -/
def Fx (Θ : Th) (a : Int) (c : Cl) : Prop := fz Θ a ∧ xo Θ a = c
theorem Fx.le (h : Fx Θ a c) (L : Le Θ Θ1) : Fx Θ1 a c := ⟨(L.1 a h.1).1, (L.1 a h.1).2.trans h.2⟩
/-- a string -/
def Str (Θ : Th) (a : Int) (l : List Int) : Prop := Fx Θ a (2, l, 0, 0)
theorem Str.le {l : List Int} (h : Str Θ a l) (L : Le Θ Θ1) : Str Θ1 a l := Fx.le h L
theorem Str.kd {l : List Int} (h : Str Θ a l) : kd Θ a = 2 := congrArg (fun z => z.1) h.2
theorem Str.vl {l : List Int} (h : Str Θ a l) : vv Θ a = l := congrArg (fun z => z.2.1) h.2
theorem Str.eq {l m : List Int} (h : Str Θ a l) (h2 : Str Θ a m) : l = m := h.vl.symm.trans h2.vl
theorem xo_k {t : Nat} (h : kd Θ a = t) : xo Θ a = (t, vv Θ a, cp Θ a, cx Θ a) := by subst h; rfl
theorem kd_of (h : xo Θ a = c) : kd Θ a = c.1 := congrArg (fun z => z.1) h
theorem vl_of (h : xo Θ a = c) : vv Θ a = c.2.1 := congrArg (fun z => z.2.1) h
theorem cp_of (h : xo Θ a = c) : cp Θ a = c.2.2.1 := congrArg (fun z => z.2.2.1) h
theorem cx_of (h : xo Θ a = c) : cx Θ a = c.2.2.2 := congrArg (fun z => z.2.2.2) h
/-- objects that were there keep what they hold, but those of ex -/
def Sm (ex : Int → Prop) (Θ Θ' : Th) : Prop := ∀ b, 0 < kd Θ b → ¬ ex b → xo Θ' b = xo Θ b
def no : Int → Prop := fun _ => False
theorem Sm.rf {ex : Int → Prop} : Sm ex Θ Θ := fun _ _ _ => rfl
theorem Sm.tr {ex : Int → Prop} (h : Sm ex Θ Θ1) (h2 : Sm ex Θ1 Θ2) : Sm ex Θ Θ2 := fun b hb hx => (h2 b (by show 0 < (xo Θ1 b).1; rw [h b hb hx]; exact hb) hx).trans (h b hb hx)
theorem Sm.mono {ex ex' : Int → Prop} (h : Sm ex Θ Θ1) (hh : ∀ b, 0 < kd Θ b → ex b → ex' b) : Sm ex' Θ Θ1 := fun b hb hx => h b hb (fun z => hx (hh b hb z))
theorem Sm.up {ex : Int → Prop} (h : ex a) : Sm ex Θ (uq Θ a c) := fun _ _ hx => xo_upN (fun e => hx (e ▸ h))
theorem Sm.pf {ex : Int → Prop} (h : ex a) : Sm ex Θ (pf Θ a k x) := Sm.up h
theorem Sm.nu {ex : Int → Prop} (h : Bl Θ) (ha : nt Θ ≤ a) : Sm ex Θ (nu Θ a c) := fun b hb _ => xo_nuN (fun e => by subst e; have := (h.1 b hb).2; omega)
theorem Sm.fr {ex A : Int → Prop} : Sm ex Θ (fr Θ A) := fun _ _ _ => rfl
theorem Sm.at {ex : Int → Prop} (h : Sm ex Θ Θ1) (hx : xo Θ b = c) (h0 : 0 < c.1) (he : ¬ ex b) : xo Θ1 b = c := (h b (by show 0 < (xo Θ b).1; rw [hx]; exact h0) he).trans hx
end TH
/-- a hash as String has it -/
def hsh (l : List Int) : Int := l.foldl (fun h c => wI (31 * h + c)) 0
/-- rows that grow: the sort of their cells -/
def rowT (k : Nat) : Nat := if k = 19 then 104 else if k = 20 then 103 else if k = 23 then 105 else if k = 55 then 101 else 0
/-- a row that grows: what it holds, its capacity -/
def RowC (ω : AO) (S : AS) (t : Nat) (a : Int) (l : List Int) (c : Int) : Prop :=
  tg S (ct S a 0) = t ∧ ln S (ct S a 0) = c ∧ bo ω ≤ ct S a 0 ∧ ct S a 1 = len l ∧ (len l ≤ c ∧ 1 ≤ c) ∧ ∀ k, 0 ≤ k → k < len l → ct S (ct S a 0) k = gt l k
/-- a String's hash: not asked for yet, or known -/
def HsC (ω : AO) (S : AS) (a : Int) (l : List Int) : Prop := (ct S a 2 = 0 ∧ ct S a 3 = 0 ∧ bo ω ≤ a) ∨ (ct S a 2 = hsh l ∧ (hsh l = 0 → ct S a 3 = 1))
/-- what an object is in the heap; ow: whose an inner cell is -/
def RV (ω : AO) (S : AS) (Θ : Th) (ow : Int → Int) (a : Int) (c : Cl) : Prop :=
  if c.1 = 2 then StrC S a c.2.1 ∧ len c.2.1 ≤ 15000000 ∧ HsC ω S a c.2.1 ∧ kd Θ (ct S a 0) = 0 ∧ ow (ct S a 0) = -2 ∧ fz Θ a ∧ c.2.2 = (0, 0)
  else if c.1 = 3 then LstC ω S a c.2.1 c.2.2.1 ∧ ct S a 0 = c.2.2.2 ∧ kd Θ (ct S a 1) = 0 ∧ (c.2.2.1 = 0 ∧ ct S a 1 = ev ω ∨ ow (ct S a 1) = a)
  else if c.1 = 1 then BldC ω S a c.2.1 c.2.2.1 c.2.2.2 ∧ kd Θ (ct S a 0) = 0 ∧ ow (ct S a 0) = a
  else if 0 < rowT c.1 then tg S a = c.1 ∧ RowC ω S (rowT c.1) a c.2.1 c.2.2.1 ∧ kd Θ (ct S a 0) = 0 ∧ ow (ct S a 0) = a
  else if c.1 < 100 then 0 < c.1 ∧ tg S a = c.1 ∧ c.1 ≠ 98 ∧ len c.2.1 = (nF c.1 : Int) ∧ ∀ k, 0 ≤ k → k < len c.2.1 → ct S a k = gt c.2.1 k
  else if c.1 < 200 then tg S a = c.1 ∧ ln S a = len c.2.1 ∧ ∀ k, 0 ≤ k → k < len c.2.1 → ct S a k = gt c.2.1 k
  else tg S a + 200 = c.1 ∧ 0 < tg S a ∧ ∀ k, ct S a k = ini (tg S a) k
/-- the kind of the cell that is an object -/
def tk (k : Nat) : Nat := if k < 200 then k else k - 200
/-- the Strings that stand in the code, the rows of numbers, small Integers -/
def sv (ω : AO) (i : Nat) : Int := (ω.2.2.1 "#V" i : Int) - 1
def Wd (ω : AO) (Θ : Th) : Prop := (∀ q : String × Nat × List Int, q ∈ lit_ → Str Θ (ω.2.2.1 q.1 q.2.1 : Int) q.2.2) ∧ (∀ q : Nat × List Int, q ∈ stA_ → Fx Θ (sv ω q.1) (104, q.2, 0, 0)) ∧
  (∃ l, Fx Θ (sv ω 6) (110, l, 0, 0) ∧ len l = 256 ∧ ∀ k, 0 ≤ k → k < 256 → Fx Θ (gt l k) (7, [k - 128], 0, 0)) ∧ (∀ i j, 9 ≤ i → i < 14 → 9 ≤ j → j < 14 → sv ω i = sv ω j → i = j) ∧ (∀ i, 9 ≤ i → i < 14 → 0 ≤ sv ω i) ∧
  ∃ l, Fx Θ (sv ω 7) (101, l, 0, 0) ∧ len l = 100 ∧ (∀ k, 0 ≤ k → k < 10 → gt l k = 48 + k) ∧ Fx Θ (sv ω 22) (70, [], 0, 0)
def R2w (ω : AO) (S : AS) (Θ : Th) (ow : Int → Int) : Prop :=
  (∀ a, 0 < kd Θ a → RV ω S Θ ow a (xo Θ a)) ∧ (∀ a, 0 < kd Θ a → tg S a = tk (kd Θ a) ∧ 0 < tk (kd Θ a) ∧ 0 ≤ a ∧ a < nt Θ) ∧ nt Θ ≤ nx S ∧ 0 ≤ nt Θ ∧ bo ω ≤ nt Θ ∧
  (∀ a, fz Θ a → 0 < kd Θ a ∧ kd Θ a < 200) ∧ (∀ a, 0 < kd Θ a → ¬ fz Θ a → bo ω ≤ a) ∧ ow (ev ω) = -3 ∧ tg S (ev ω) = 106 ∧ ln S (ev ω) = 0 ∧ kd Θ (ev ω) = 0 ∧ Wd ω Θ
def R2 (ω : AO) (S : AS) (Θ : Th) : Prop := ∃ ow, R2w ω S Θ ow
/-- all cells lie below nx -/
def bel (S : AS) : Prop := ∀ a, 0 < tg S a → 0 ≤ a ∧ a < nx S

/-- kinds whose places are plain numbers -/
def plK (t : Nat) : Bool := decide (0 < t) && decide (t < 100) && !([1, 2, 3, 98, 19, 20, 23, 55] : List Nat).contains t
section R2S
variable {ω : AO} {S S' : AS} {Θ Θ' : Th} {ow ow' : Int → Int} {a b k x i n : Int} {t e : Nat} {c c' : Cl} {l : List Int}
theorem plK_row (h : plK t = true) : t ≠ 2 ∧ t ≠ 3 ∧ t ≠ 1 ∧ rowT t = 0 ∧ t ≠ 98 ∧ t < 100 ∧ 0 < t := by
  simp only [plK, Bool.and_eq_true, decide_eq_true_eq, Bool.not_eq_true', List.contains_eq_mem, decide_eq_false_iff_not, List.mem_cons, List.not_mem_nil, or_false, not_or] at h
  obtain ⟨⟨h1, h2⟩, h3, h4, h5, h6, h7, h8, h10, h11⟩ := h
  refine ⟨h4, h5, h3, ?_, h6, h2, h1⟩
  unfold rowT
  rw [if_neg h7, if_neg h8, if_neg h10, if_neg h11]
theorem R2.tgk (h : R2 ω S Θ) (hk : kd Θ a = t) (h0 : 0 < t ∧ t < 200) : tg S a = t := by
  obtain ⟨ow, -, h2, -⟩ := h
  have := (h2 a (by omega)).1
  rw [hk] at this
  rw [this]
  unfold tk
  rw [if_pos h0.2]
theorem R2.tgX (h : R2 ω S Θ) (hk : kd Θ a = t) (h0 : 0 < t) : tg S a = tk t := by
  obtain ⟨ow, -, h2, -⟩ := h
  have := (h2 a (by omega)).1
  rw [hk] at this
  exact this
theorem R2.nn (h : R2 ω S Θ) (hk : 0 < kd Θ a) : 0 ≤ a := by
  obtain ⟨ow, -, h2, -⟩ := h
  exact (h2 a hk).2.2.1
theorem R2.lt (h : R2 ω S Θ) (hk : 0 < kd Θ a) : a < nt Θ := by
  obtain ⟨ow, -, h2, -⟩ := h
  exact (h2 a hk).2.2.2
theorem R2.nxx (h : R2 ω S Θ) : nt Θ ≤ nx S ∧ 0 ≤ nt Θ ∧ bo ω ≤ nt Θ := by
  obtain ⟨ow, -, -, h3, h4, h5, -⟩ := h
  exact ⟨h3, h4, h5⟩
theorem R2.mut (h : R2 ω S Θ) (hk : 0 < kd Θ a) (hf : ¬ fz Θ a) : bo ω ≤ a := by
  obtain ⟨ow, -, -, -, -, -, -, h6, -⟩ := h
  exact h6 a hk hf
theorem R2.bl (h : R2 ω S Θ) : Bl Θ := by
  obtain ⟨ow, -, h2, -, -, -, h5, -⟩ := h
  exact ⟨fun b hb => (h2 b hb).2.2, h5⟩
theorem R2.wd (h : R2 ω S Θ) : Wd ω Θ := by
  obtain ⟨ow, -, -, -, -, -, -, -, -, -, -, -, h⟩ := h
  exact h
theorem RV.obj (h : RV ω S Θ ow a c) (hp : plK c.1 = true) : len c.2.1 = (nF c.1 : Int) ∧ ∀ k, 0 ≤ k → k < len c.2.1 → ct S a k = gt c.2.1 k := by
  obtain ⟨h1, h2, h3, h4, h6, h7, h8⟩ := plK_row hp
  unfold RV at h
  rw [if_neg h1, if_neg h2, if_neg h3, if_neg (by omega), if_pos h7] at h
  exact h.2.2.2
theorem R2.obj {N : Nat} (h : R2 ω S Θ) (hk : kd Θ a = t) (hp : plK t = true) (hN : nF t = N) (h0 : 0 ≤ k ∧ k < (N : Int)) : ct S a k = gt (vv Θ a) k ∧ k < len (vv Θ a) := by
  subst hN
  obtain ⟨ow, h1, -⟩ := h
  have hp' := plK_row hp
  have h2 := RV.obj (h1 a (by omega)) (by show plK (kd Θ a) = true; rw [hk]; exact hp)
  have e : len (vv Θ a) = (nF t : Int) := by rw [← hk]; exact h2.1
  exact ⟨h2.2 k h0.1 (by show k < len (vv Θ a); omega), by omega⟩
theorem R2.arr (h : R2 ω S Θ) (hk : kd Θ a = t) (ht : 100 < t ∧ t < 200) : ln S a = len (vv Θ a) ∧ ∀ k, 0 ≤ k → k < len (vv Θ a) → ct S a k = gt (vv Θ a) k := by
  obtain ⟨ow, h1, -⟩ := h
  have h2 := h1 a (by omega)
  unfold RV at h2
  have hk' : (xo Θ a).1 = t := hk
  have hr : rowT t = 0 := by unfold rowT; rw [if_neg (by omega), if_neg (by omega), if_neg (by omega), if_neg (by omega)]
  rw [hk', if_neg (by omega), if_neg (by omega), if_neg (by omega), if_neg (by omega), if_neg (by omega), if_pos (by omega)] at h2
  exact h2.2
theorem rowT_ne (h : 0 < rowT t) : t ≠ 2 ∧ t ≠ 3 ∧ t ≠ 1 ∧ t < 100 ∧ 0 < t := by
  unfold rowT at h
  split at h
  · omega
  · split at h
    · omega
    · split at h
      · omega
      · split at h <;> omega
theorem R2.row (h : R2 ω S Θ) (hk : kd Θ a = t) (ht : 0 < rowT t) : RowC ω S (rowT t) a (vv Θ a) (cp Θ a) := by
  obtain ⟨ow, h1, -⟩ := h
  have hn := rowT_ne ht
  have h2 := h1 a (by rw [hk]; exact hn.2.2.2.2)
  unfold RV at h2
  have hk' : (xo Θ a).1 = t := hk
  rw [hk', if_neg hn.1, if_neg hn.2.1, if_neg hn.2.2.1, if_pos ht] at h2
  exact h2.2.1
theorem R2.rowAt (h : R2 ω S Θ) (hk : kd Θ a = t) (ht : rowT t = e) (he : 0 < e) (hv : x = ct S a 0) (hi : 0 ≤ i ∧ i < len (vv Θ a)) : tg S x = e ∧ i < ln S x ∧ ct S x i = gt (vv Θ a) i := by
  have q := h.row hk (by omega)
  subst hv
  exact ⟨by rw [← ht]; exact q.1, by rw [q.2.1]; have := q.2.2.2.2.1; omega, q.2.2.2.2.2 i hi.1 hi.2⟩
/-- what is not touched stays -/
theorem RV.keep (h : RV ω S Θ ow a c) (w : bel S) (E : Ext S S') (hc : ∀ j, ct S' a j = ct S a j)
    (hin : ∀ b, b < nx S → kd Θ b = 0 → (ow b = a ∨ ow b = -2) → (∀ j, ct S' b j = ct S b j) ∧ ow' b = ow b ∧ kd Θ' b = 0)
    (hev : kd Θ' (ev ω) = 0) (htev : tg S (ev ω) = 106) (hf : fz Θ a → fz Θ' a) : RV ω S' Θ' ow' a c := by
  unfold RV at h ⊢
  by_cases h2 : c.1 = 2
  · rw [if_pos h2] at h ⊢
    obtain ⟨i1, i2, i3, i4, i5, i6, i7⟩ := h
    have hb := (w (ct S a 0) (by rw [i1.2.1]; decide)).2
    obtain ⟨k1, k2, k3⟩ := hin _ hb i4 (Or.inr i5)
    refine ⟨i1.keep E hc k1, i2, ?_, by rw [hc]; exact k3, by rw [hc, k2]; exact i5, hf i6, i7⟩
    rcases i3 with i3 | i3
    · exact Or.inl (by rw [hc, hc]; exact i3)
    · exact Or.inr (by rw [hc, hc]; exact i3)
  rw [if_neg h2] at h ⊢
  by_cases h3 : c.1 = 3
  · rw [if_pos h3] at h ⊢
    obtain ⟨i1, i2, i3, i4⟩ := h
    have hb := (w (ct S a 1) (by rw [i1.2.2.2.1]; decide)).2
    rcases i4 with ⟨i4, i5⟩ | i4
    · refine ⟨?_, by rw [hc]; exact i2, by rw [hc, i5]; exact hev, Or.inl ⟨i4, by rw [hc]; exact i5⟩⟩
      obtain ⟨m1, m2, m3, m4, m5, m6, m7, m8, m9⟩ := i1
      have n0 := len_nn c.2.1
      exact ⟨E.tag (t := 3) m1 (by decide), m2, by rw [hc, m3], by rw [hc]; exact E.tag (t := 106) m4 (by decide), by rw [hc, E.len (by rw [m4]; decide), m5], m6, by rw [hc]; exact m7, fun k k0 k1 => by omega, fun k k0 k1 => by omega⟩
    · obtain ⟨k1, k2, k3⟩ := hin _ hb i3 (Or.inl i4)
      exact ⟨i1.keep E (hc 1) (hc 2) k1, by rw [hc]; exact i2, by rw [hc]; exact k3, Or.inr (by rw [hc, k2]; exact i4)⟩
  rw [if_neg h3] at h ⊢
  by_cases h1 : c.1 = 1
  · rw [if_pos h1] at h ⊢
    obtain ⟨i1, i3, i4⟩ := h
    have hb := (w (ct S a 0) (by rw [i1.2.2.2.2.2.1]; decide)).2
    obtain ⟨k1, k2, k3⟩ := hin _ hb i3 (Or.inl i4)
    exact ⟨i1.keep E hc k1, by rw [hc]; exact k3, by rw [hc, k2]; exact i4⟩
  rw [if_neg h1] at h ⊢
  by_cases hr : 0 < rowT c.1
  · rw [if_pos hr] at h ⊢
    obtain ⟨i0, ⟨i1, i2, i3, i4, i5, i6⟩, i7, i8⟩ := h
    have hb := (w (ct S a 0) (by rw [i1]; exact hr)).2
    obtain ⟨k1, k2, k3⟩ := hin _ hb i7 (Or.inl i8)
    have h0 : 0 < c.1 := (rowT_ne hr).2.2.2.2
    exact ⟨E.tag i0 h0, ⟨by rw [hc]; exact E.tag i1 hr, by rw [hc, E.len (by rw [i1]; exact hr), i2], by rw [hc]; exact i3, by rw [hc, i4], i5, fun k k0 k2 => by rw [hc, k1]; exact i6 k k0 k2⟩, by rw [hc]; exact k3, by rw [hc, k2]; exact i8⟩
  rw [if_neg hr] at h ⊢
  by_cases h100 : c.1 < 100
  · rw [if_pos h100] at h ⊢
    obtain ⟨i0, i1, i4, i2, i3⟩ := h
    exact ⟨i0, E.tag i1 i0, i4, i2, fun k k0 k1 => by rw [hc]; exact i3 k k0 k1⟩
  rw [if_neg h100] at h ⊢
  by_cases h200 : c.1 < 200
  · rw [if_pos h200] at h ⊢
    obtain ⟨i1, i2, i3⟩ := h
    exact ⟨E.tag i1 (by omega), by rw [E.len (by omega), i2], fun k k0 k1 => by rw [hc]; exact i3 k k0 k1⟩
  rw [if_neg h200] at h ⊢
  obtain ⟨i1, i2, i3⟩ := h
  have e := (E.1 a i2).1
  exact ⟨by rw [e]; exact i1, by rw [e]; exact i2, fun k => by rw [hc, e]; exact i3 k⟩
/-- objects A change or are new, all else stays -/
theorem R2w.step (h : R2w ω S Θ ow) (w : bel S) (E : Ext S S') (A : Int → Prop) (hA : ∀ a, A a → 0 ≤ a)
    (h1 : ∀ b, 0 < kd Θ b → ¬ A b → xo Θ' b = xo Θ b ∧ ∀ j, ct S' b j = ct S b j)
    (h2 : ∀ b, b < nx S → kd Θ b = 0 → ¬ A (ow b) → b ≠ ev ω → (∀ j, ct S' b j = ct S b j) ∧ ow' b = ow b ∧ kd Θ' b = 0)
    (h3 : ∀ a, A a → 0 < kd Θ' a → RV ω S' Θ' ow' a (xo Θ' a) ∧ tg S' a = tk (kd Θ' a) ∧ 0 < tk (kd Θ' a) ∧ a < nt Θ' ∧ (¬ fz Θ' a → bo ω ≤ a))
    (h4 : ∀ b, 0 < kd Θ' b → ¬ A b → 0 < kd Θ b) (h5 : nt Θ ≤ nt Θ' ∧ nt Θ' ≤ nx S') (h6 : ∀ a, fz Θ' a → 0 < kd Θ' a ∧ kd Θ' a < 200)
    (L : Le Θ Θ') (h7 : ow' (ev ω) = -3) (h8 : kd Θ' (ev ω) = 0) : R2w ω S' Θ' ow' := by
  obtain ⟨r1, r2, r3, r4, r5, r6, r7, r8, r9, r10, r11, r12⟩ := h
  refine ⟨fun a ha => ?_, fun a ha => ?_, h5.2, by omega, by omega, h6, fun a ha hf => ?_, h7, E.tag (t := 106) r9 (by decide), by rw [E.len (by rw [r9]; decide)]; exact r10, h8, ?_⟩
  · by_cases hx : A a
    · exact (h3 a hx ha).1
    · have h0 := h4 a ha hx
      obtain ⟨e1, e2⟩ := h1 a h0 hx
      rw [e1]
      refine RV.keep (r1 a h0) w E e2 (fun b hb hk ho => ?_) h8 r9 (fun hf => (L.1 a hf).1)
      refine h2 b hb hk ?_ (fun z => ?_)
      · rcases ho with ho | ho
        · rw [ho]; exact hx
        · rw [ho]; exact fun z => absurd (hA _ z) (by decide)
      · subst z
        have := (r2 a h0).2.2.1
        omega
  · by_cases hx : A a
    · obtain ⟨-, q1, q2, q3, -⟩ := h3 a hx ha
      exact ⟨q1, q2, hA a hx, q3⟩
    · have h0 := h4 a ha hx
      obtain ⟨e1, e2⟩ := h1 a h0 hx
      obtain ⟨q1, q2, q3, q4⟩ := r2 a h0
      have ek : kd Θ' a = kd Θ a := congrArg (fun z => z.1) e1
      have hpos : 0 < tg S a := by rw [q1]; exact q2
      exact ⟨by rw [ek, (E.1 a hpos).1, q1], by rw [ek]; exact q2, q3, by omega⟩
  · by_cases hx : A a
    · exact (h3 a hx ha).2.2.2.2 hf
    · exact r7 a (h4 a ha hx) (fun z => hf (L.1 a z).1)
  · obtain ⟨w1, w2, ⟨l, w3, w4, w5⟩, w6, w7, m, w8, w9, w10, w11⟩ := r12
    exact ⟨fun q hq => (w1 q hq).le L, fun q hq => (w2 q hq).le L, ⟨l, w3.le L, w4, fun k k0 k1 => (w5 k k0 k1).le L⟩, w6, w7, m, w8.le L, w9, w10, w11.le L⟩
theorem RV.mkP (hp : plK c.1 = true) (h1 : tg S a = c.1) (h2 : len c.2.1 = (nF c.1 : Int)) (h3 : ∀ k, 0 ≤ k → k < len c.2.1 → ct S a k = gt c.2.1 k) : RV ω S Θ ow a c := by
  obtain ⟨p1, p2, p3, p4, p6, p7, p8⟩ := plK_row hp
  unfold RV
  rw [if_neg p1, if_neg p2, if_neg p3, if_neg (by omega), if_pos p7]
  exact ⟨p8, h1, p6, h2, h3⟩
theorem RV.mkA (ht : 100 < c.1 ∧ c.1 < 200) (h1 : tg S a = c.1) (h2 : ln S a = len c.2.1) (h3 : ∀ k, 0 ≤ k → k < len c.2.1 → ct S a k = gt c.2.1 k) : RV ω S Θ ow a c := by
  have hr : rowT c.1 = 0 := by unfold rowT; rw [if_neg (by omega), if_neg (by omega), if_neg (by omega), if_neg (by omega)]
  unfold RV
  rw [if_neg (by omega), if_neg (by omega), if_neg (by omega), if_neg (by omega), if_neg (by omega), if_pos ht.2]
  exact ⟨h1, h2, h3⟩
theorem RV.mkN (ht : 200 < c.1) (h1 : tg S a + 200 = c.1) (h3 : ∀ k, ct S a k = ini (tg S a) k) : RV ω S Θ ow a c := by
  have hr : rowT c.1 = 0 := by unfold rowT; rw [if_neg (by omega), if_neg (by omega), if_neg (by omega), if_neg (by omega)]
  unfold RV
  rw [if_neg (by omega), if_neg (by omega), if_neg (by omega), if_neg (by omega), if_neg (by omega), if_neg (by omega)]
  exact ⟨h1, by omega, h3⟩
theorem tk_lt (h : t < 200) : tk t = t := if_pos h
/-- one object is written in its own places -/
theorem R2w.put1 (h : R2w ω S Θ ow) (w : bel S) (hk : 0 < kd Θ a) (hf : ¬ fz Θ a) (hr : RV ω (wr S a k x) (pf Θ a k x) ow a (xo (pf Θ a k x) a)) : R2w ω (wr S a k x) (pf Θ a k x) ow := by
  have h' := h
  obtain ⟨r1, r2, r3, r4, r5, r6, r7, r8, r9, r10, r11, r12⟩ := h
  refine h'.step w (Ext.rf.wr rfl) (fun b => b = a) (fun b hb => by subst hb; exact (r2 b hk).2.2.1) (fun b hb hx => ⟨xo_pfN hx, fun j => ct_wrN hx⟩) (fun b hb hkb hx he => ⟨fun j => ct_wrN (fun e => by subst e; omega), rfl, by rw [kd_pf]; exact hkb⟩)
    (fun b hb hkb => ?_) (fun b hb hx => by rw [kd_pf] at hb; exact hb) ⟨Int.le_refl _, r3⟩ (fun b hb => by rw [kd_pf]; exact r6 b hb) (Le.pf hf) r8 (by rw [kd_pf]; exact r11)
  subst hb
  have q := r2 b hk
  exact ⟨hr, by rw [kd_pf]; exact q.1, by rw [kd_pf]; exact q.2.1, q.2.2.2, fun hf => r7 b hk hf⟩
theorem R2.put {N : Nat} (h : R2 ω S Θ) (w : bel S) (hk : kd Θ a = t) (hp : plK t = true) (hN : nF t = N) (h0 : 0 ≤ k ∧ k < (N : Int)) (hf : ¬ fz Θ a) : R2 ω (wr S a k x) (pf Θ a k x) := by
  obtain ⟨ow, hw⟩ := h
  have hp' := plK_row hp
  have hka : (xo Θ a).1 = t := hk
  have ho := RV.obj (hw.1 a (by omega)) (by show plK (kd Θ a) = true; rw [hk]; exact hp)
  have hl : len (vv Θ a) = (N : Int) := by rw [← hN, ← hk]; exact ho.1
  refine ⟨ow, hw.put1 w (by omega) hf (RV.mkP ?_ ?_ ?_ ?_)⟩
  · rw [xo_pfA]; show plK (kd Θ a) = true; rw [hk]; exact hp
  · rw [xo_pfA]
    have := (hw.2.1 a (by omega)).1
    rw [tk_lt (by omega)] at this
    exact this
  · rw [xo_pfA]; show len ((vv Θ a).set _ _) = (nF (kd Θ a) : Int); rw [len_set, hl, hk, hN]
  · rw [xo_pfA]
    intro j j0 j1
    have j1 : j < len ((vv Θ a).set k.toNat x) := j1
    rw [len_set] at j1
    show ct (wr S a k x) a j = gt ((vv Θ a).set k.toNat x) j
    rw [gt_set (by omega) j0, ct_wr]
    by_cases hj : j = k
    · rw [if_pos ⟨rfl, hj⟩, if_pos hj]
    · rw [if_neg (fun z => hj z.2), if_neg hj]; exact ho.2 j j0 j1
theorem R2.puta (h : R2 ω S Θ) (w : bel S) (hk : kd Θ a = t) (ht : 100 < t ∧ t < 200) (h0 : 0 ≤ k ∧ k < len (vv Θ a)) (hf : ¬ fz Θ a) : R2 ω (wr S a k x) (pf Θ a k x) := by
  have ha := h.arr hk ht
  have htg := h.tgk hk (by omega)
  obtain ⟨ow, hw⟩ := h
  refine ⟨ow, hw.put1 w (by omega) hf (RV.mkA ?_ ?_ ?_ ?_)⟩
  · rw [xo_pfA]; show 100 < kd Θ a ∧ kd Θ a < 200; omega
  · rw [xo_pfA]; show tg S a = kd Θ a; omega
  · rw [xo_pfA]; show ln S a = len ((vv Θ a).set _ _); rw [len_set]; exact ha.1
  · rw [xo_pfA]
    intro j j0 j1
    have j1 : j < len ((vv Θ a).set k.toNat x) := j1
    rw [len_set] at j1
    show ct (wr S a k x) a j = gt ((vv Θ a).set k.toNat x) j
    rw [gt_set h0 j0, ct_wr]
    by_cases hj : j = k
    · rw [if_pos ⟨rfl, hj⟩, if_pos hj]
    · rw [if_neg (fun z => hj z.2), if_neg hj]; exact ha.2 j j0 j1
theorem R2.putm (h : R2 ω S Θ) (w : bel S) (hk : kd Θ a = t) (ht : 0 < rowT t) (h0 : 0 ≤ x ∧ x ≤ len (vv Θ a)) (hf : ¬ fz Θ a) : R2 ω (wr S a 1 x) (pm Θ a x) := by
  have hr := h.row hk ht
  have hn := rowT_ne ht
  have hp : 0 < t := hn.2.2.2.2
  have htg := h.tgk hk ⟨hp, by omega⟩
  obtain ⟨ow, hw⟩ := h
  obtain ⟨r1, r2, r3, r4, r5, r6, r7, r8, r9, r10, r11, r12⟩ := hw
  have hin := r1 a (by omega)
  unfold RV at hin
  have hka : (xo Θ a).1 = t := hk
  rw [hka, if_neg hn.1, if_neg hn.2.1, if_neg hn.2.2.1, if_pos ht] at hin
  obtain ⟨i0, -, i7, i8⟩ := hin
  obtain ⟨i1, i2, i3, i4, i5, i6⟩ := hr
  have hne : a ≠ ct S a 0 := fun e => by
    rw [← e, htg] at i1
    rw [i1] at hn hka
    unfold rowT at i1
    split at i1
    · omega
    · split at i1
      · omega
      · split at i1
        · omega
        · split at i1 <;> omega
  refine ⟨ow, R2w.step ⟨r1, r2, r3, r4, r5, r6, r7, r8, r9, r10, r11, r12⟩ w (Ext.rf.wr rfl) (fun b => b = a) (fun b hb => by subst hb; exact (r2 b (by omega)).2.2.1) (fun b hb hx => ⟨xo_pmN hx, fun j => ct_wrN hx⟩) (fun b hb hkb hx he => ⟨fun j => ct_wrN (fun e => by subst e; omega), rfl, by rw [kd_pm]; exact hkb⟩)
    (fun b hb hkb => ?_) (fun b hb hx => by rw [kd_pm] at hb; exact hb) ⟨Int.le_refl _, r3⟩ (fun b hb => by rw [kd_pm]; exact r6 b hb) (Le.pm hf) r8 (by rw [kd_pm]; exact r11)⟩
  subst hb
  have q := r2 b (by omega)
  refine ⟨?_, by rw [kd_pm]; exact q.1, by rw [kd_pm]; exact q.2.1, q.2.2.2, fun hf => r7 b (by omega) hf⟩
  rw [xo_pmA]
  have hll : len ((vv Θ b).take x.toNat) = x := by rw [len_take h0.1]; omega
  unfold RV
  show if kd Θ b = 2 then _ else if kd Θ b = 3 then _ else if kd Θ b = 1 then _ else if 0 < rowT (kd Θ b) then _ else _
  rw [hk, if_neg hn.1, if_neg hn.2.1, if_neg hn.2.2.1, if_pos ht]
  have e0 : ct (wr S b 1 x) b 0 = ct S b 0 := ct_wrK (by decide)
  refine ⟨i0, ⟨by rw [e0]; exact i1, by rw [e0]; exact i2, by rw [e0]; exact i3, by rw [ct_wr1]; exact hll.symm, by show len ((vv Θ b).take x.toNat) ≤ cp Θ b ∧ 1 ≤ cp Θ b; rw [hll]; omega, fun k k0 k1 => ?_⟩, by rw [e0, kd_pm]; exact i7, by rw [e0]; exact i8⟩
  have k1 : k < len ((vv Θ b).take x.toNat) := k1
  rw [hll] at k1
  rw [e0, ct_wrN (Ne.symm hne), i6 k k0 (by omega)]
  show gt (vv Θ b) k = gt ((vv Θ b).take x.toNat) k
  rw [gt_take h0.1 k0, if_pos k1]
/-- a new cell that is an object -/
theorem R2w.new1 (h : R2w ω S Θ ow) (w : bel S) (ht : 0 < t) (hc : tk c.1 = t ∧ 0 < c.1 ∧ c.1 ≠ 200) (hr : RV ω (nw S t n) (nu Θ (nx S) c) ow (nx S) c) : R2w ω (nw S t n) (nu Θ (nx S) c) ow := by
  have h' := h
  obtain ⟨r1, r2, r3, r4, r5, r6, r7, r8, r9, r10, r11, r12⟩ := h
  have hbl : Bl Θ := ⟨fun b hb => (r2 b hb).2.2, r6⟩
  have hne : ∀ b, 0 < kd Θ b → b ≠ nx S := fun b hb e => by have := (r2 b hb).2.2.2; omega
  have hev : ev ω ≠ nx S := fun e => by have := (w (ev ω) (by rw [r9]; decide)).2; omega
  refine h'.step w (Ext.rf.nw w rfl) (fun b => b = nx S) (fun b hb => by omega) (fun b hb hx => ⟨xo_nuN hx, fun j => by rw [ct_nw, if_neg hx]⟩)
    (fun b hb hkb hx he => ⟨fun j => by rw [ct_nw, if_neg (by omega)], rfl, by show (xo (nu Θ (nx S) c) b).1 = 0; rw [xo_nuN (by omega)]; exact hkb⟩)
    (fun b hb hkb => ?_) (fun b hb hx => by rw [show kd (nu Θ (nx S) c) b = kd Θ b from congrArg (fun z => z.1) (xo_nuN hx)] at hb; exact hb) ⟨by show nt Θ ≤ nx S + 1; omega, Int.le_refl _⟩ (fun b hb => ?_) (Le.nuw hbl r3) r8 (by rw [show kd (nu Θ (nx S) c) (ev ω) = kd Θ (ev ω) from congrArg (fun z => z.1) (xo_nuN hev)]; exact r11)
  · subst hb
    have e : xo (nu Θ (nx S) c) (nx S) = c := xo_nuA
    have e1 : kd (nu Θ (nx S) c) (nx S) = c.1 := congrArg (fun z => z.1) e
    refine ⟨by rw [e]; exact hr, by rw [e1, hc.1]; exact if_pos rfl, by rw [e1, hc.1]; exact ht, by show nx S < nx S + 1; omega, fun _ => by omega⟩
  · have := r6 b hb
    rw [show kd (nu Θ (nx S) c) b = kd Θ b from congrArg (fun z => z.1) (xo_nuN (hne b this.1))]
    exact this
theorem R2.new {N : Nat} (h : R2 ω S Θ) (w : bel S) (hp : plK t = true) (hN : nF t = N) (hl : len l = (N : Int)) (hi : ((List.range N).all fun j => decide (ini t (j : Int) = gt l (j : Int))) = true) : R2 ω (nw S t 0) (nu Θ (nx S) (t, l, 0, 0)) := by
  have hi : ∀ k, 0 ≤ k → k < (N : Int) → ini t k = gt l k := fun k k0 k1 => by
    have := of_decide_eq_true (List.all_eq_true.mp hi k.toNat (List.mem_range.mpr (by omega)))
    rw [Int.toNat_of_nonneg k0] at this
    exact this
  obtain ⟨ow, hw⟩ := h
  have hp' := plK_row hp
  refine ⟨ow, hw.new1 w (by omega) ⟨tk_lt (by show t < 200; omega), by show 0 < t; omega, by show t ≠ 200; omega⟩ (RV.mkP hp (if_pos rfl) (by show len l = (nF t : Int); rw [hN]; exact hl) (fun k k0 k1 => ?_))⟩
  show ct (nw S t 0) (nx S) k = gt l k
  rw [ct_nw, if_pos rfl]
  exact hi k k0 (by have k1 : k < len l := k1; omega)
theorem R2.newr (h : R2 ω S Θ) (w : bel S) (ht : 0 < t ∧ t < 100) : R2 ω (nw S t 0) (nu Θ (nx S) (200 + t, [], 0, 0)) := by
  obtain ⟨ow, hw⟩ := h
  refine ⟨ow, hw.new1 w ht.1 ⟨by show tk (200 + t) = t; unfold tk; rw [if_neg (by omega)]; omega, by show 0 < 200 + t; omega, by show 200 + t ≠ 200; omega⟩ (RV.mkN (by show 200 < 200 + t; omega) ?_ (fun k => ?_))⟩
  · show tg (nw S t 0) (nx S) + 200 = 200 + t
    rw [tg_nw, if_pos rfl]; omega
  · rw [tg_nw, if_pos rfl, ct_nw, if_pos rfl]
theorem ini_arr (h : 100 < t) {k : Int} : ini t k = ini t 0 := by
  have h' : ¬ t < 100 := by omega
  simp only [ini, if_neg h']
theorem len_rep {n : Int} (h : 0 ≤ n) : len (List.replicate n.toNat x) = n := by unfold len; rw [List.length_replicate]; omega
theorem gt_rep {n : Int} (h : 0 ≤ k ∧ k < n) : gt (List.replicate n.toNat x) k = x := by
  unfold gt
  rw [List.getD_eq_getElem?_getD, List.getElem?_replicate, if_pos (by omega)]
  rfl
theorem R2.newa {z : Int} (h : R2 ω S Θ) (w : bel S) (ht : 100 < t ∧ t < 111) (hn : 0 ≤ n) (hz : ini t 0 = z) : R2 ω (nw S t n) (nu Θ (nx S) (t, List.replicate n.toNat z, 0, 0)) := by
  obtain ⟨ow, hw⟩ := h
  refine ⟨ow, hw.new1 w (by omega) ⟨tk_lt (by show t < 200; omega), by show 0 < t; omega, by show t ≠ 200; omega⟩ (RV.mkA (by show 100 < t ∧ t < 200; omega) (if_pos rfl) ?_ (fun k k0 k1 => ?_))⟩
  · show ln (nw S t n) (nx S) = len (List.replicate n.toNat z)
    rw [len_rep hn, ln_nw, if_pos rfl]
  · have k1 : k < len (List.replicate n.toNat z) := k1
    rw [len_rep hn] at k1
    show ct (nw S t n) (nx S) k = gt (List.replicate n.toNat z) k
    rw [gt_rep ⟨k0, k1⟩, ct_nw, if_pos rfl, ini_arr ht.1, hz]
theorem R2.frz {A : Int → Prop} (h : R2 ω S Θ) (w : bel S) : R2 ω S (fr Θ A) := by
  obtain ⟨ow, hw⟩ := h
  have h' := hw
  obtain ⟨r1, r2, r3, r4, r5, r6, r7, r8, r9, r10, r11, r12⟩ := hw
  exact ⟨ow, h'.step w Ext.rf (fun _ => False) (fun _ z => z.elim) (fun b hb _ => ⟨rfl, fun _ => rfl⟩) (fun b hb hk _ _ => ⟨fun _ => rfl, rfl, hk⟩) (fun _ z => z.elim) (fun b hb _ => hb) ⟨Int.le_refl _, r3⟩
    (fun b hb => hb.elim (r6 b) (fun z => z.2)) Le.fr r8 r11⟩
/-- a reference that may lie in a list -/
def rf (Θ : Th) (x : Int) : Prop := x = -1 ∨ 0 < kd Θ x ∧ kd Θ x < 71
theorem R2.rfS (h : R2 ω S Θ) (hx : rf Θ x) : Rf S x := by
  rcases hx with hx | ⟨hx, h7⟩
  · exact Or.inl hx
  · obtain ⟨ow, -, h2, -⟩ := h
    have := (h2 x hx).1
    rw [tk_lt (by omega)] at this
    exact Or.inr (by omega)
theorem R2.mem {ts : List Nat} (h : R2 ω S Θ) (ht : (ts.all fun t => decide (0 < t) && decide (t < 200)) = true) (hx : x < 0 ∨ kd Θ x ∈ ts) : x < 0 ∨ tg S x ∈ ts := by
  rcases hx with hx | hx
  · exact Or.inl hx
  · have := List.all_eq_true.mp ht _ hx
    simp only [Bool.and_eq_true, decide_eq_true_eq] at this
    rw [← h.tgk (t := kd Θ x) rfl this] at hx
    exact Or.inr hx
theorem R2.mem1 {ts : List Nat} (h : R2 ω S Θ) (ht : (ts.all fun t => decide (0 < t) && decide (t < 200)) = true) (hx : x = -1 ∨ kd Θ x ∈ ts) : x = -1 ∨ tg S x ∈ ts := by
  rcases hx with hx | hx
  · exact Or.inl hx
  · have := List.all_eq_true.mp ht _ hx
    simp only [Bool.and_eq_true, decide_eq_true_eq] at this
    rw [← h.tgk (t := kd Θ x) rfl this] at hx
    exact Or.inr hx
end R2S
/-- ends of contracts -/
def q2 (ω : AO) (Θ0 : Th) (Q : Int → Th → Prop) : Int → AS → Prop := fun x S' => ∃ Θ', R2 ω S' Θ' ∧ Le Θ0 Θ' ∧ Q x Θ'
def q2U (ω : AO) (Θ0 : Th) (Q : Th → Prop) : AS → Prop := fun S' => ∃ Θ', R2 ω S' Θ' ∧ Le Θ0 Θ' ∧ Q Θ'
/-- a place in a body -/
def SJ2 (ω : AO) (y : MethodName) (cc : ByteArray) (nL : Nat) (ret : Option FieldType) (d G : Nat) (P : AS → Th → Option AV → AS → Prop) (pc : Nat) (vs st : List AV) (g : Nat) (Θ : Th) : Prop :=
  ∀ (p : Program) (e : Env) (R : Room) (s : State) (m : MethodId) (args : Array Value) (below : List Frame) (meth : Method) (c : Code) (F : AFo ω p e R s m args below meth c cc nL y.cls ret d G) (_ : meth.name = y.name) (S0 : AS) (Θ0 : Th) (S : AS), Ext S0 S → R2 ω S Θ → Le Θ0 Θ → AW F (P S0 Θ0) pc vs st g S
section CT
variable {ω : AO} {y : MethodName} {cc : ByteArray} {nL : Nat} {ret : Option FieldType} {d G : Nat} {As vs : List AV} {S : AS} {Θ : Th} {P P' : Option AV → AS → Prop} {Q Q' : Int → AS → Prop} {QV QV' : AS → Prop}
theorem Ctr.mono (h : Ctr ω y cc nL ret d G As S P) (k : ∀ r S', bel S' → P r S' → P' r S') : Ctr ω y cc nL ret d G As S P' :=
  fun hZ => MetFree.mono (h hZ) (fun _ _ h => h) (fun _ _ _ _ _ h => h) (fun _ _ _ _ _ ⟨⟨r, S', e, hR, hP⟩, hL⟩ => ⟨⟨r, S', e, hR, k r S' (fun _ ha => hR.2.2.1.tag ha) hP⟩, hL⟩)
theorem SC2.of {P : AS → Th → Option AV → AS → Prop} (hy : plainFor y = true) (hk : (As.all fun v => decide (v.1 < 9)) = true) (hn : catS As ≤ nL) (hvs : ent As ++ List.replicate (nL - catS As) vN = vs)
    (h : SJ2 ω y cc nL ret d G P 0 vs [] 0 Θ) : ∀ S, bel S → R2 ω S Θ → Ctr ω y cc nL ret d G As S (P S Θ) :=
  fun S _ R => Ctr.of hy hk hn hvs (fun F hm => h _ _ _ _ _ _ _ _ _ F hm S Θ S Ext.rf R Le.rf)
theorem mvI (h : Ctr ω y cc nL ret d G As S (eI S Q)) (k : ∀ x S', bel S' → Ext S S' → Q x S' → Q' x S') : Ctr ω y cc nL ret d G As S (eI S Q') := h.mono (fun _ S' w ⟨x, e, hx, E, q⟩ => ⟨x, e, hx, E, k x S' w E q⟩)
theorem mvZ (h : Ctr ω y cc nL ret d G As S (eZ S Q)) (k : ∀ x S', bel S' → Ext S S' → Q x S' → Q' x S') : Ctr ω y cc nL ret d G As S (eZ S Q') := h.mono (fun _ S' w ⟨x, e, hx, E, q⟩ => ⟨x, e, hx, E, k x S' w E q⟩)
theorem mvC (h : Ctr ω y cc nL ret d G As S (eC S Q)) (k : ∀ x S', bel S' → Ext S S' → Q x S' → Q' x S') : Ctr ω y cc nL ret d G As S (eC S Q') := h.mono (fun _ S' w ⟨x, e, hx, E, q⟩ => ⟨x, e, hx, E, k x S' w E q⟩)
theorem mvL (h : Ctr ω y cc nL ret d G As S (eL S Q)) (k : ∀ x S', bel S' → Ext S S' → Q x S' → Q' x S') : Ctr ω y cc nL ret d G As S (eL S Q') := h.mono (fun _ S' w ⟨x, e, hx, E, q⟩ => ⟨x, e, hx, E, k x S' w E q⟩)
theorem mvA (h : Ctr ω y cc nL ret d G As S (eA S Q)) (k : ∀ x S', bel S' → Ext S S' → Q x S' → Q' x S') : Ctr ω y cc nL ret d G As S (eA S Q') := h.mono (fun _ S' w ⟨x, e, hx, E, q⟩ => ⟨x, e, hx, E, k x S' w E q⟩)
theorem mvU (h : Ctr ω y cc nL ret d G As S (eU S QV)) (k : ∀ S', bel S' → Ext S S' → QV S' → QV' S') : Ctr ω y cc nL ret d G As S (eU S QV') := h.mono (fun _ S' w ⟨e, E, q⟩ => ⟨e, E, k S' w E q⟩)
/-- objects are frozen at a contract's end -/
theorem frI {Q : Int → Th → Prop} (A : Int → Int → Prop) (h : Hid (∀ S, bel S → R2 ω S Θ → Ctr ω y cc nL ret d G As S (eI S (q2 ω Θ (fun x Θ' => Q x (fr Θ' (A x))))))) : Hid (∀ S, bel S → R2 ω S Θ → Ctr ω y cc nL ret d G As S (eI S (q2 ω Θ Q))) :=
  Hid.mk (fun S w R => mvI (Hid.out h S w R) (fun _ _ w' _ ⟨_, R', L, q⟩ => ⟨_, R'.frz w', L.tr Le.fr, q⟩))
theorem frZ {Q : Int → Th → Prop} (A : Int → Int → Prop) (h : Hid (∀ S, bel S → R2 ω S Θ → Ctr ω y cc nL ret d G As S (eZ S (q2 ω Θ (fun x Θ' => Q x (fr Θ' (A x))))))) : Hid (∀ S, bel S → R2 ω S Θ → Ctr ω y cc nL ret d G As S (eZ S (q2 ω Θ Q))) :=
  Hid.mk (fun S w R => mvZ (Hid.out h S w R) (fun _ _ w' _ ⟨_, R', L, q⟩ => ⟨_, R'.frz w', L.tr Le.fr, q⟩))
theorem frA {Q : Int → Th → Prop} (A : Int → Int → Prop) (h : Hid (∀ S, bel S → R2 ω S Θ → Ctr ω y cc nL ret d G As S (eA S (q2 ω Θ (fun x Θ' => Q x (fr Θ' (A x))))))) : Hid (∀ S, bel S → R2 ω S Θ → Ctr ω y cc nL ret d G As S (eA S (q2 ω Θ Q))) :=
  Hid.mk (fun S w R => mvA (Hid.out h S w R) (fun _ _ w' _ ⟨_, R', L, q⟩ => ⟨_, R'.frz w', L.tr Le.fr, q⟩))
theorem frU {Q : Th → Prop} (A : Int → Prop) (h : Hid (∀ S, bel S → R2 ω S Θ → Ctr ω y cc nL ret d G As S (eU S (q2U ω Θ (fun Θ' => Q (fr Θ' A)))))) : Hid (∀ S, bel S → R2 ω S Θ → Ctr ω y cc nL ret d G As S (eU S (q2U ω Θ Q))) :=
  Hid.mk (fun S w R => mvU (Hid.out h S w R) (fun _ w' _ ⟨_, R', L, q⟩ => ⟨_, R'.frz w', L.tr Le.fr, q⟩))
end CT

section LDCW
variable {p : Program} {l : Launch} {e : Env} {R : Room} {s : State} {m : MethodId} {args : Array Value} {below : List Frame} {meth : Method} {c : Code} {cc : ByteArray} {nL : Nat} {own : String} {ret : Option FieldType} {D : va_G} {sa : String → Nat → Nat} {b0 : Nat} {Z : Heap → Prop} {d G : Nat}
variable {F : AF p l e R s m args below meth c cc nL own ret D sa b0 Z d G} {P : Option AV → AS → Prop} {pc : Nat} {vs vs' st : List AV} {g : Nat} {S : AS} {idx : Nat}
theorem va_ldcSW {T : State} {locs : List Loc} {cells slots : Nat} (X : Stand p l e R s m args below meth c T locs cells slots) (hexec : p.tables.exec = Jvm.exec) {text : String} {index : Nat} {a : Addr} (hown : s.vm.findClass own = some m.cls)
    (hconst : (Cond.stringRef own index text).before args s = true) (hev : (Term.string own index).eval args s none [] s = some (.ref a)) {g : JFrame} (hg : g.method = m) (hdg : decode c.code g.pc = .ok (.ldc_w index, 3)) :
    ∀ target, Steps p.tables e below (T.setTop { g with pc := g.pc + 3, stack := .ref a :: g.stack }) target → Steps p.tables e below (T.setTop g) target := by
  obtain ⟨k, cf, i, a', hk, hcf, hcp, -, hr, hev'⟩ := Cond.stringRef_spec hown hconst
  cases hev.symm.trans hev'
  obtain ⟨k', hk', he⟩ := X.warmed.alike.2.2 _ _ hk
  have hr' : k'.resolved[index]? = some (some (.string a)) := by
    rcases X.warmed.entry hk hk' index with h | ⟨h, -⟩
    · rw [h]; exact hr
    · rw [hr] at h; cases h
  intro target hrest
  subst hg
  jvm_step X.here [hexec, hdg, ldc_w.wp_string (e := e) (s := T) (f := g) X.here.top hk' (by rw [he]; exact hcf) hcp hr']
  exact hrest
theorem aw_ldcSW {tx : String} (hd : decode cc pc = .ok (.ldc_w idx, 3)) (hs : Cond.stringRef own idx tx ∈ lw_tbl) (kk : AW F P (pc + 3) vs ((2, (sa own idx : Int)) :: st) g S) : AW F P pc vs st g S := by
  intro H locs L hR hL hA
  have hZ := F.2.2.2.2.2.2.2.1.2.2.2.2.1 own idx tx hs
  have k2 := kk H locs L hR hL hA
  rw [List.map_cons, show dv (2, (sa own idx : Int)) = .ref (sa own idx) from (rV_of (Int.natCast_nonneg _))] at k2
  intro T hT X
  obtain ⟨t, a1, b1⟩ := k2 T hT X
  exact ⟨t, va_ldcSW X F.1 F.2.2.2.1 hZ.1 hZ.2 (g := F0 m pc L (st.map dv)) rfl (by rw [F.2.1]; exact hd) t a1, b1⟩
end LDCW
