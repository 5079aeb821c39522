/-! 85.aa.lean.txt -/
/-! boxes by their addresses, and by their numbers -/
set_option maxRecDepth 100000
theorem fup_id {α : Type} {f : Int → α} {k : Int} {v : α} (h : f k = v) : fup f k v = f := sorry
/-- the boxes of X: la where their lists lie, κ how long these may get, β what they hold -/
def bxs (X : List Int) (la κ : Int → Int) (β : Int → BxR) : List It := X.map (fun a => bxI a (la a) (κ a) (β a))
section BXS
variable {ω : AO} {d G : Nat} {Θ Θ1 : Th} {a b c k x : Int} {X W U : List Int} {la κ κ' : Int → Int} {β β' : Int → BxR} {r : BxR} {R : List It} {i j : Nat} {Q : Th → Prop}
theorem bxs_at (h : a ∈ X) : ∃ i : Nat, X[i]? = some a ∧ (bxs X la κ β ++ R)[i]? = some (bxI a (la a) (κ a) (β a)) := sorry
theorem bxs_ix (hn : X.Nodup) (hi : X[i]? = some a) (hj : X[j]? = some a) : i = j := sorry
theorem bxs_set (hn : X.Nodup) (hi : X[i]? = some a) : (bxs X la κ β ++ R).set i (bxI a (la a) c r) = bxs X la (fup κ a c) (fup β a r) ++ R := sorry
theorem bxs_setK (hn : X.Nodup) (hi : X[i]? = some a) (hk : κ a = c) : (bxs X la κ β ++ R).set i (bxI a (la a) c r) = bxs X la κ (fup β a r) ++ R := by
  rw [bxs_set hn hi, fup_id hk]
theorem bxs_of (hO : OwS Θ (bxs X la κ β ++ R)) (h : a ∈ X) : (bxI a (la a) (κ a) (β a)).2 Θ := sorry
/-- a field but the list is written -/
theorem OwT.bxF {r' : BxR} (hO : OwS Θ (bxs X la κ β ++ R)) (hn : X.Nodup) (h : a ∈ X) (t : Θ1 = pf Θ a k x) (he : ([(β a).1, (β a).2.1, la a, (β a).2.2.2.1, (β a).2.2.2.2.1, (β a).2.2.2.2.2.1, (β a).2.2.2.2.2.2] : List Int).set k.toNat x = [r'.1, r'.2.1, la a, r'.2.2.2.1, r'.2.2.2.2.1, r'.2.2.2.2.2.1, r'.2.2.2.2.2.2]) (hk : r'.2.2.1 = (β a).2.2.1) : OwT Θ (bxs X la κ β ++ R) Θ1 (bxs X la κ (fup β a r') ++ R) := sorry
theorem u_X61_putX (hd : 8 ≤ d) (hO : OwS Θ (bxs X la κ β ++ R)) (hn : X.Nodup) (ha : a ∈ X) (hb : b ∈ X) (hab : a ≠ b) (hc : adC (κ a) (len (β a).2.2.1) ≤ 60000000) (hG : adC (κ a) (len (β a).2.2.1) - κ a ≤ (G : Int))
    (hQ : ∀ Θ', OwT Θ (bxs X la κ β ++ R) Θ' (bxs X la (fup κ a (adC (κ a) (len (β a).2.2.1))) (fup (fup β a ((β a).1, (β a).2.1, (β a).2.2.1 ++ [b], (β a).2.2.2)) b ((β b).1, a, (β b).2.2)) ++ R) → Q Θ') : w2_X61_put ω d G a b Θ Q := sorry
theorem u_X61_leaveX0 (hO : OwS Θ (bxs X la κ β ++ R)) (hn : X.Nodup) (ha : a ∈ X) (hin : (β a).2.1 = -1) (hQ : ∀ Θ', OwT Θ (bxs X la κ β ++ R) Θ' (bxs X la κ (fup β a ((β a).1, -1, (β a).2.2)) ++ R) → Q Θ') : w2_X61_leave ω d G a Θ Q := sorry
theorem u_X61_leaveX (hd : 3 ≤ d) (hO : OwS Θ (bxs X la κ β ++ R)) (hn : X.Nodup) (ha : a ∈ X) (hb : b ∈ X) (hab : a ≠ b) (hin : (β a).2.1 = b) (hm : 0 ≤ idx (β b).2.2.1 a 0)
    (hQ : ∀ Θ', OwT Θ (bxs X la κ β ++ R) Θ' (bxs X la κ (fup (fup β b ((β b).1, (β b).2.1, del (β b).2.2.1 (idx (β b).2.2.1 a 0), (β b).2.2.2)) a ((β a).1, -1, (β a).2.2)) ++ R) → Q Θ') : w2_X61_leave ω d G a Θ Q := sorry
end BXS
/-! by their numbers: W the boxes that are used, as they were made use of -/
def adr (W : List Int) (j : Int) : Int := if j < 0 then -1 else gt W j
/-- the store of boxes s shows itself in what the boxes W hold; ma: where messages lie -/
def FoB (W : List Int) (ma : Int → Int) (s : Fo) (β : Int → BxR) : Prop := s.1 = len W ∧ W.Nodup ∧ (∀ a, a ∈ W → 0 ≤ a) ∧ ∀ j, 0 ≤ j → j < len W → (β (gt W j)).1 = (if s.2.1 j < 0 then -1 else ma (s.2.1 j)) ∧ (β (gt W j)).2.1 = adr W (s.2.2.1 j) ∧ (β (gt W j)).2.2.1 = (s.2.2.2 j).map (adr W) ∧ (β (gt W j)).2.2.2.1 = 1
theorem gt_nodup {W : List Int} (hn : W.Nodup) {i j : Int} (hi : 0 ≤ i ∧ i < len W) (hj : 0 ≤ j ∧ j < len W) (h : gt W i = gt W j) : i = j := sorry
section FOB
variable {W : List Int} {ma : Int → Int} {s : Fo} {β : Int → BxR} {p c j k m : Int}
theorem FoB.row (h : FoB W ma s β) (hj : 0 ≤ j ∧ j < s.1) : (β (gt W j)).1 = (if s.2.1 j < 0 then -1 else ma (s.2.1 j)) ∧ (β (gt W j)).2.1 = adr W (s.2.2.1 j) ∧ (β (gt W j)).2.2.1 = (s.2.2.2 j).map (adr W) ∧ (β (gt W j)).2.2.2.1 = 1 := h.2.2.2 j hj.1 (by rw [← h.1]; exact hj.2)
theorem FoB.mem (h : FoB W ma s β) (hj : 0 ≤ j ∧ j < s.1) : gt W j ∈ W := gt_mem hj.1 (by rw [← h.1]; exact hj.2)
theorem FoB.inj (h : FoB W ma s β) (hj : 0 ≤ j ∧ j < s.1) (hk : 0 ≤ k ∧ k < s.1) (e : gt W j = gt W k) : j = k := sorry
theorem FoB.nn (h : FoB W ma s β) (hj : 0 ≤ j ∧ j < s.1) : 0 ≤ gt W j := h.2.2.1 _ (h.mem hj)
theorem FoB.put (h : FoB W ma s β) (hp : 0 ≤ p ∧ p < s.1) (hc : 0 ≤ c ∧ c < s.1) (hpc : p ≠ c) :
    FoB W ma (foPut s p c) (fup (fup β (gt W p) ((β (gt W p)).1, (β (gt W p)).2.1, (β (gt W p)).2.2.1 ++ [gt W c], (β (gt W p)).2.2.2)) (gt W c) ((β (gt W c)).1, gt W p, (β (gt W c)).2.2)) := sorry
theorem FoB.msg (h : FoB W ma s β) (hk : 0 ≤ k ∧ k < s.1) (hm : 0 ≤ m) : FoB W ma (foMsg s k m) (fup β (gt W k) (ma m, (β (gt W k)).2)) := sorry
/-- in a list of boxes the places are those of the numbers -/
theorem idx_mp {f : Int → Int} {l : List Int} (hf : ∀ x, x ∈ l → f x = f c → x = c) : idx (l.map f) (f c) 0 = idx l c 0 := sorry
theorem del_map {f : Int → Int} {l : List Int} {i : Int} : (del l i).map f = del (l.map f) i := sorry
theorem FoB.ino (h : FoB W ma s β) (ho : foOk s) (hj : 0 ≤ j ∧ j < s.1) : ∀ x, x ∈ s.2.2.2 j → adr W x = adr W c → (0 ≤ c ∧ c < s.1) → x = c := sorry
/-- out of what a box is in -/
theorem FoB.lv (h : FoB W ma s β) (ho : foOk s) (hc : 0 ≤ c ∧ c < s.1) (hp : 0 ≤ p ∧ p < s.1) (hpc : p ≠ c) (hu : s.2.2.1 c = p) :
    idx (β (gt W p)).2.2.1 (gt W c) 0 = idx (s.2.2.2 p) c 0 ∧
    FoB W ma (foLv s c) (fup (fup β (gt W p) ((β (gt W p)).1, (β (gt W p)).2.1, del (β (gt W p)).2.2.1 (idx (β (gt W p)).2.2.1 (gt W c) 0), (β (gt W p)).2.2.2)) (gt W c) ((β (gt W c)).1, -1, (β (gt W c)).2.2)) := sorry
theorem FoB.lv0 (h : FoB W ma s β) (hc : 0 ≤ c ∧ c < s.1) (hu : s.2.2.1 c < 0) : foLv s c = s ∧ (β (gt W c)).2.1 = -1 ∧ FoB W ma s (fup β (gt W c) ((β (gt W c)).1, -1, (β (gt W c)).2.2)) := sorry
/-- whether a box is in another one -/
theorem FoB.chn {Θ : Th} {X : List Int} {la κ : Int → Int} {R : List It} (h : FoB W ma s β) (ho : foOk s) (hO : OwS Θ (bxs X la κ β ++ R)) (hX : ∀ a, a ∈ W → a ∈ X) (hp : 0 ≤ p ∧ p < s.1) (hc : 0 ≤ c ∧ c < s.1) :
    ∃ ch, chnB Θ (gt W p :: ch) ∧ (gt W c ∈ gt W p :: ch ↔ foAnc s.2.2.1 p c) := sorry
end FOB

/-! 85.ab.lean.txt -/
/-! a box comes into use -/
set_option maxRecDepth 100000
theorem apx_at {α : Type} {A R : List α} {n : Nat} : (A ++ R)[A.length + n]? = R[n]? := sorry
theorem apx_set {α : Type} {A R : List α} {n : Nat} {x : α} : (A ++ R).set (A.length + n) x = A ++ R.set n x := sorry
section USE
variable {ω : AO} {d G : Nat} {Θ Θ1 : Th} {a b c k x o us ot hm cw co cw' e : Int} {X W U O CF K : List Int} {la κ : Int → Int} {β : Int → BxR} {R L : List It} {n : Nat}
/-- a list that is an item is altered -/
theorem OwT.lsU {rs rs' : List Int} {c' e' : Int} (hO : OwS Θ L) (hn : L[n]? = some (lsI a rs c)) (t : Θ1 = uq Θ a (3, rs', c', e')) : OwT Θ L Θ1 (L.set n (lsI a rs' c')) := sorry
theorem bxs_perm {X' : List Int} (h : X.Perm X') : (bxs X la κ β ++ R).Perm (bxs X' la κ β ++ R) := (h.map _).append_right R
theorem bxs_cg {κ' la' : Int → Int} {β2 : Int → BxR} (h : ∀ a, a ∈ X → la' a = la a ∧ κ' a = κ a ∧ β2 a = β a) : bxs X la' κ' β2 = bxs X la κ β := sorry
theorem era_perm (hb : b ∈ U) : (W ++ U).Perm ((W ++ [b]) ++ U.erase b) := sorry
theorem u_X10_use {Q : Int → Th → Prop} {t f rw : Int} (hd : 8 ≤ d) (hO : OwS Θ (bxs (W ++ U) la κ β ++ obj o (24, CF, 0, 0) :: lsI us W cw :: R)) (hus : gt CF 2 = us) (hn : (W ++ U).Nodup) (hb : b ∈ U) (b0 : 0 ≤ b) (hβ : β b = (-1, -1, [], 0, t, f, rw))
    (hcw : cw = 0 ∨ 10 ≤ cw) (hlw : len W ≤ cw) (hmx : adC cw (len W) ≤ 60000000) (hG : adC cw (len W) - cw ≤ (G : Int))
    (hQ : ∀ Θ', OwT Θ (bxs (W ++ U) la κ β ++ obj o (24, CF, 0, 0) :: lsI us W cw :: R) Θ' (bxs ((W ++ [b]) ++ U.erase b) la κ (fup β b (-1, -1, [], 1, t, f, rw)) ++ obj o (24, CF, 0, 0) :: lsI us (W ++ [b]) (adC cw (len W)) :: R) → Q b Θ') : w2_X10_use ω d G o b Θ Q := sorry
end USE
section FNW
variable {W : List Int} {ma : Int → Int} {s : Fo} {β : Int → BxR} {b j : Int}
theorem adr_app (h : j < len W) : adr (W ++ [b]) j = adr W j := sorry
theorem FoB.cg {β' : Int → BxR} (h : FoB W ma s β) (hb : ∀ a, a ∈ W → β' a = β a) : FoB W ma s β' := sorry
theorem FoB.new {r : Int × Int × Int} (h : FoB W ma s β) (ho : foDm s) (hb : b ∉ W) (b0 : 0 ≤ b) : FoB (W ++ [b]) ma (foNew s) (fup β b (-1, -1, [], 1, r)) ∧ gt (W ++ [b]) s.1 = b := sorry
end FNW

/-! 85.ac.lean.txt -/
/-! the box that a key leads to; one that no key leads to -/
set_option maxRecDepth 100000
/-- the first place of a key -/
def kIx (k : List Int) : List (List Int) → Int
  | [] => -1
  | x :: r => if x = k then 0 else if kIx k r < 0 then -1 else kIx k r + 1
def kAt (l : List (List Int)) (j : Int) : List Int := l.getD j.toNat []
theorem kIx_ge {k : List Int} : ∀ {l : List (List Int)}, -1 ≤ kIx k l ∧ kIx k l < (l.length : Int) := sorry
theorem kIx_no {k : List Int} : ∀ {l : List (List Int)}, kIx k l < 0 ↔ k ∉ l := sorry
theorem kIx_at {k : List Int} : ∀ {l : List (List Int)}, 0 ≤ kIx k l → kAt l (kIx k l) = k := sorry
theorem kAt_app {l : List (List Int)} {k : List Int} {j : Int} (h : 0 ≤ j) (h1 : j < (l.length : Int)) : kAt (l ++ [k]) j = kAt l j := sorry
theorem kAt_last {l : List (List Int)} {k : List Int} : kAt (l ++ [k]) (l.length : Int) = k := sorry
theorem kAt_mem {l : List (List Int)} {j : Int} (h : 0 ≤ j) (h1 : j < (l.length : Int)) : kAt l j ∈ l := sorry
/-- the keys of the boxes that are used (none: the empty one); the store -/
abbrev Cv : Type := List (List Int) × Fo
def cvNew (s : Cv) (k : List Int) : Cv := (s.1 ++ [k], foNew s.2)
def cvOf (s : Cv) (k : List Int) : Int × Cv := if kIx k s.1 < 0 then (s.2.1, cvNew s k) else (kIx k s.1, s)
def cvAl (s : Cv) : Int × Cv := (s.2.1, cvNew s [])
/-- which boxes there are: W used, U not used, O those that no key leads to (the first tk of them are used), M where a key leads -/
def PoO (s : Cv) (W U O : List Int) (tk : Int) (M : List Int → Int) (β : Int → BxR) : Prop :=
  (s.1.length : Int) = len W ∧ (W ++ U).Nodup ∧ (∀ a, a ∈ W ++ U → 0 ≤ a) ∧ (∀ a, a ∈ U → ∃ t f r, β a = (-1, -1, [], 0, t, f, r)) ∧
  (∀ j, 0 ≤ j → j < len W → kAt s.1 j ≠ [] → M (kAt s.1 j) = gt W j) ∧ (∀ k, M k = -1 ∨ 0 ≤ M k ∧ k ≠ [] ∧ (M k ∈ U ∨ k ∈ s.1)) ∧ (∀ k k', 0 ≤ M k → M k = M k' → k = k') ∧ (∀ k, 0 ≤ M k → M k ∉ O ∧ M k ∈ W ++ U) ∧
  (0 ≤ tk ∧ tk ≤ len O) ∧ O.Nodup ∧ (∀ i, 0 ≤ i → i < tk → gt O i ∈ W) ∧ ∀ i, tk ≤ i → i < len O → gt O i ∈ U
section POO
variable {s : Cv} {W U O : List Int} {tk tk' b v : Int} {M : List Int → Int} {β : Int → BxR} {k : List Int} {t f r : Int}
theorem PoO.use (h : PoO s W U O tk M β) (hb : b ∈ U) (hk : (k ≠ [] ∧ M k = b ∧ tk' = tk) ∨ (k = [] ∧ tk < len O ∧ gt O tk = b ∧ tk' = tk + 1)) : PoO (cvNew s k) (W ++ [b]) (U.erase b) O tk' M (fup β b (-1, -1, [], 1, t, f, r)) := sorry
theorem PoO.nk (h : PoO s W U O tk M β) (hk : kIx k s.1 < 0) (hne : k ≠ []) : M k < 0 ∨ M k ∈ U := sorry
theorem PoO.kk (h : PoO s W U O tk M β) (hk : 0 ≤ kIx k s.1) (hne : k ≠ []) : (0 ≤ kIx k s.1 ∧ kIx k s.1 < len W) ∧ M k = gt W (kIx k s.1) := sorry
theorem PoO.vin (h : PoO s W U O tk M β) (hv : v ∉ W ++ U) : v ∉ O ∧ ∀ k, 0 ≤ M k → M k ≠ v := sorry
theorem PoO.newK (h : PoO s W U O tk M β) (hk : M k < 0) (hne : k ≠ []) (hv : v ∉ W ++ U) (v0 : 0 ≤ v) : PoO s W (v :: U) O tk (upM M k v) (fup β v (-1, -1, [], 0, t, f, r)) := sorry
theorem PoO.newO (h : PoO s W U O tk M β) (ht : tk = len O) (hv : v ∉ W ++ U) (v0 : 0 ≤ v) : PoO s W (v :: U) (O ++ [v]) tk M (fup β v (-1, -1, [], 0, t, f, r)) := sorry
end POO

/-! 85.ad.lean.txt -/
/-! of, alone: the heap -/
set_option maxRecDepth 100000
/-- what conversations own: the boxes; the object; those that are used; those that no key leads to; the map -/
def cvL (o : Int) (CF W U O : List Int) (la κ : Int → Int) (β : Int → BxR) (cw co : Int) (F : List Int) (sz : Int) (M : List Int → Int) (R : List It) : List It :=
  bxs (W ++ U) la κ β ++ obj o (24, CF, 0, 0) :: lsI (gt CF 2) W cw :: lsI (gt CF 1) O co :: hmS (gt CF 0) F sz M :: R
section OFA
variable {ω : AO} {d G : Nat} {Θ Θ1 : Th} {a b c v x o cw co sz kr tk : Int} {W U O CF F : List Int} {la κ : Int → Int} {β : Int → BxR} {R : List It} {M : List Int → Int} {s : Cv} {ma : Int → Int} {k : List Int}
theorem cvL_o (hO : OwS Θ (cvL o CF W U O la κ β cw co F sz M R)) : xo Θ o = (24, CF, 0, 0) ∧ ¬ fz Θ o := sorry
theorem cvL_w (hO : OwS Θ (cvL o CF W U O la κ β cw co F sz M R)) : ∃ e, xo Θ (gt CF 2) = (3, W, cw, e) ∧ ¬ fz Θ (gt CF 2) := sorry
theorem cvL_q (hO : OwS Θ (cvL o CF W U O la κ β cw co F sz M R)) : ∃ e, xo Θ (gt CF 1) = (3, O, co, e) ∧ ¬ fz Θ (gt CF 1) := sorry
theorem cvL_m (hO : OwS Θ (cvL o CF W U O la κ β cw co F sz M R)) : HMS Θ (gt CF 0) F sz M := sorry
/-- a new box joins those that are not used -/
theorem cvL_nu {la' κ' : Int → Int} {β' : Int → BxR} {l1 : Int} {rr : BxR} (h : OwT Θ (cvL o CF W U O la κ β cw co F sz M R) Θ1 (bxI v l1 0 rr :: cvL o CF W U O la κ β cw co F sz M R)) (hv : v ∉ W ++ U) (e1 : la' = fup la v l1) (e2 : κ' = fup κ v 0) (e3 : β' = fup β v rr) :
    OwT Θ (cvL o CF W U O la κ β cw co F sz M R) Θ1 (cvL o CF W (v :: U) O la' κ' β' cw co F sz M R) := sorry
/-- the box is in use now -/
theorem u_X10_of34 {Q : Int → Th → Prop} {g : Nat} (hd : 9 ≤ d) (hO : OwS Θ (cvL o CF W U O la κ β cw co F sz M R)) (hP : PoO s W U O tk M β) (hb : b ∈ U)
    (hcw : cw = 0 ∨ 10 ≤ cw) (hlw : len W ≤ cw) (hmx : adC cw (len W) ≤ 60000000) (hG : (g : Int) + (adC cw (len W) - cw) ≤ (G : Int))
    (hQ : ∀ Θ' t f r, OwT Θ (cvL o CF W U O la κ β cw co F sz M R) Θ' (cvL o CF (W ++ [b]) (U.erase b) O la κ (fup β b (-1, -1, [], 1, t, f, r)) (adC cw (len W)) co F sz M R) → Q b Θ') : W2_X10_of_34 ω d G o b g Θ Q := sorry
theorem pS_ge {sz : Int} (h : 0 ≤ sz) : 6 ≤ pS sz := sorry
theorem u_X10_of {Q : Int → Th → Prop} (hd : 24 ≤ d) (hO : OwS Θ (cvL o CF W U O la κ β cw co F sz M R)) (hP : PoO s W U O tk M β) (hF : FoB W ma s.2 β) (hk : foDm s.2) (hs : Str Θ kr k) (hw : wide k = 0) (hne : k ≠ []) (kr0 : 0 ≤ kr)
    (hcw : cw = 0 ∨ 10 ≤ cw) (hlw : len W ≤ cw) (hmx : adC cw (len W) ≤ 60000000) (hsz : sz < 90000) (hsz0 : 0 ≤ sz) (hG : (if M k < 0 then pS sz + 3 else 0) + (if kIx k s.1 < 0 then adC cw (len W) - cw else 0) ≤ (G : Int))
    (hQ : ∀ Θ' W' U' la' κ' β' cw' F' sz' M', OwT Θ (cvL o CF W U O la κ β cw co F sz M R) Θ' (cvL o CF W' U' O la' κ' β' cw' co F' sz' M' R) → PoO (cvOf s k).2 W' U' O tk M' β' → FoB W' ma (cvOf s k).2.2 β' →
      (cw' = if kIx k s.1 < 0 then adC cw (len W) else cw) → (sz' = if M k < 0 then sz + 1 else sz) → (∀ z, 0 ≤ M' z ↔ (0 ≤ M z ∨ z = k)) → (∀ z, z ≠ k → M' z = M z) → (W' = if kIx k s.1 < 0 then W ++ [gt W' (cvOf s k).1] else W) → (∀ a, a ∈ W ++ U → κ' a = κ a ∧ la' a = la a) → (M k < 0 → κ' (gt W' (cvOf s k).1) = 0) → (0 ≤ M k → gt W' (cvOf s k).1 = M k) → Q (gt W' (cvOf s k).1) Θ') : w2_X10_of ω d G o kr Θ Q := sorry
end OFA

/-! 85.ae.lean.txt -/
/-! alone: a box that no key leads to -/
set_option maxRecDepth 100000
section ALN
variable {ω : AO} {d G : Nat} {Θ Θ1 : Th} {a b c v x o cw co sz tk : Int} {W U O CF F : List Int} {la κ : Int → Int} {β : Int → BxR} {R : List It} {M : List Int → Int} {s : Cv} {ma : Int → Int}
theorem gt_s3 {l : List Int} {x j : Int} (h : 0 ≤ j) (hj : j ≠ 3) : gt (l.set 3 x) j = gt l j := sorry
theorem gt_s3a {l : List Int} {x : Int} (h : 3 < len l) : gt (l.set 3 x) 3 = x := sorry
theorem cvL_t (hO : OwS Θ (cvL o CF W U O la κ β cw co F sz M R)) (t : Θ1 = pf Θ o 3 x) : OwT Θ (cvL o CF W U O la κ β cw co F sz M R) Θ1 (cvL o (CF.set 3 x) W U O la κ β cw co F sz M R) := sorry
theorem u_X10_al29 {Q : Int → Th → Prop} {g : Nat} (hd : 9 ≤ d) (hO : OwS Θ (cvL o CF W U O la κ β cw co F sz M R)) (hCF : len CF = 10) (htk : gt CF 3 = tk) (hP : PoO s W U O tk M β) (hlt : tk < len O) (htm : tk < 1000000)
    (hcw : cw = 0 ∨ 10 ≤ cw) (hlw : len W ≤ cw) (hmx : adC cw (len W) ≤ 60000000) (hG : (g : Int) + (adC cw (len W) - cw) ≤ (G : Int))
    (hQ : ∀ Θ' t f r, OwT Θ (cvL o CF W U O la κ β cw co F sz M R) Θ' (cvL o (CF.set 3 (tk + 1)) (W ++ [gt O tk]) (U.erase (gt O tk)) O la κ (fup β (gt O tk) (-1, -1, [], 1, t, f, r)) (adC cw (len W)) co F sz M R) → Q (gt O tk) Θ') : W2_X10_alone_29 ω d G o g Θ Q := sorry
theorem u_X10_alone {Q : Int → Th → Prop} (hd : 12 ≤ d) (hO : OwS Θ (cvL o CF W U O la κ β cw co F sz M R)) (hCF : len CF = 10) (htk : gt CF 3 = tk) (hP : PoO s W U O tk M β) (hF : FoB W ma s.2 β) (hk : foDm s.2) (htm : tk < 1000000)
    (hcw : cw = 0 ∨ 10 ≤ cw) (hlw : len W ≤ cw) (hmx : adC cw (len W) ≤ 60000000) (hco : co = 0 ∨ 10 ≤ co) (hlo : len O ≤ co) (hmo : adC co (len O) ≤ 60000000)
    (hG : (if tk = len O then 3 + (adC co (len O) - co) else 0) + (adC cw (len W) - cw) ≤ (G : Int))
    (hQ : ∀ Θ' W' U' O' la' κ' β' co', OwT Θ (cvL o CF W U O la κ β cw co F sz M R) Θ' (cvL o (CF.set 3 (tk + 1)) W' U' O' la' κ' β' (adC cw (len W)) co' F sz M R) → PoO (cvAl s).2 W' U' O' (tk + 1) M β' → FoB W' ma (cvAl s).2.2 β' →
      (co' = if tk = len O then adC co (len O) else co) → (len O' = if tk = len O then len O + 1 else len O) → (W' = W ++ [gt W' (cvAl s).1]) → (∀ a, a ∈ W ++ U → κ' a = κ a ∧ la' a = la a) → (tk = len O → κ' (gt W' (cvAl s).1) = 0) → (tk < len O → O' = O ∧ gt W' (cvAl s).1 = gt O tk) → Q (gt W' (cvAl s).1) Θ') : w2_X10_alone ω d G o Θ Q := sorry
end ALN

/-! 85.af.lean.txt -/
/-! conversations: what they are by numbers, with what it costs -/
set_option maxRecDepth 100000
/-- the used boxes (keys, store); how long the lists in them may get; (how many of the others are taken, how long the list of the used ones may get, how many others there are, how long their list may get); the keys that are known; what was spent -/
abbrev Cw : Type := Cv × (Int → Int) × (Int × Int × Int × Int) × List (List Int) × Int
def cwUse (s : Cw) (k : List Int) (cap : Int) : Cw := (cvNew s.1 k, fup s.2.1 s.1.2.1 cap, (s.2.2.1.1, adC s.2.2.1.2.1 s.1.2.1, s.2.2.1.2.2), s.2.2.2.1, s.2.2.2.2 + (adC s.2.2.1.2.1 s.1.2.1 - s.2.2.1.2.1))
def cwKnow (s : Cw) (k : List Int) : Cw := if k ∈ s.2.2.2.1 then s else (s.1, s.2.1, s.2.2.1, s.2.2.2.1 ++ [k], s.2.2.2.2 + (pS (s.2.2.2.1.length : Int) + 3))
def cwOf (kp : List Int → Int) (s : Cw) (k : List Int) : Int × Cw := if kIx k s.1.1 < 0 then (s.1.2.1, cwUse (cwKnow s k) k (kp k)) else (kIx k s.1.1, s)
def cwOth (s : Cw) : Cw := (s.1, s.2.1, (s.2.2.1.1 + 1, s.2.2.1.2.1, (if s.2.2.1.1 = s.2.2.1.2.2.1 then s.2.2.1.2.2.1 + 1 else s.2.2.1.2.2.1), (if s.2.2.1.1 = s.2.2.1.2.2.1 then adC s.2.2.1.2.2.2 s.2.2.1.2.2.1 else s.2.2.1.2.2.2)), s.2.2.2.1,
  s.2.2.2.2 + if s.2.2.1.1 = s.2.2.1.2.2.1 then 3 + (adC s.2.2.1.2.2.2 s.2.2.1.2.2.1 - s.2.2.1.2.2.2) else 0)
def cwAl (ko : Int → Int) (s : Cw) : Int × Cw := (s.1.2.1, cwUse (cwOth s) [] (ko s.2.2.1.1))
def cwPut (s : Cw) (p c : Int) : Cw := ((s.1.1, foPut s.1.2 p c), fup s.2.1 p (adC (s.2.1 p) (len (s.1.2.2.2.2 p))), s.2.2.1, s.2.2.2.1, s.2.2.2.2 + (adC (s.2.1 p) (len (s.1.2.2.2.2 p)) - s.2.1 p))
def cwLv (s : Cw) (c : Int) : Cw := ((s.1.1, foLv s.1.2 c), s.2)
def cwMsg (s : Cw) (k m : Int) : Cw := ((s.1.1, foMsg s.1.2 k m), s.2)
theorem cwKnow_1 {s : Cw} {k : List Int} : (cwKnow s k).1 = s.1 ∧ (cwKnow s k).2.1 = s.2.1 ∧ (cwKnow s k).2.2.1 = s.2.2.1 := by
  unfold cwKnow
  split <;> exact ⟨rfl, rfl, rfl⟩
theorem cwOf_1 {kp : List Int → Int} {s : Cw} {k : List Int} : (cwOf kp s k).2.1 = (cvOf s.1 k).2 ∧ (cwOf kp s k).1 = (cvOf s.1 k).1 := sorry
/-- where all that lies: the used boxes, the others that are not, those without keys; lists; capacities; what they hold; the map's places; the map -/
abbrev Hx : Type := List Int × List Int × List Int × (Int → Int) × (Int → Int) × (Int → BxR) × List Int × (List Int → Int)
def cwL (o : Int) (CF : List Int) (R : List It) (s : Cw) (X : Hx) : List It := cvL o CF X.1 X.2.1 X.2.2.1 X.2.2.2.1 X.2.2.2.2.1 X.2.2.2.2.2.1 s.2.2.1.2.1 s.2.2.1.2.2.2 X.2.2.2.2.2.2.1 (s.2.2.2.1.length : Int) X.2.2.2.2.2.2.2 R
/-- how long lists may get: of those that are used, of those to come -/
def KpO (s : Cw) (X : Hx) (kp : List Int → Int) (ko : Int → Int) : Prop :=
  (∀ j, 0 ≤ j → j < len X.1 → X.2.2.2.2.1 (gt X.1 j) = s.2.1 j) ∧ (∀ k, k ≠ [] → kIx k s.1.1 < 0 → kp k = if X.2.2.2.2.2.2.2 k < 0 then 0 else X.2.2.2.2.1 (X.2.2.2.2.2.2.2 k)) ∧ ∀ i, s.2.2.1.1 ≤ i → ko i = if i < len X.2.2.1 then X.2.2.2.2.1 (gt X.2.2.1 i) else 0
def CwG (Kg : Fo → Prop) (Θ : Th) (o : Int) (CF : List Int) (R : List It) (s : Cw) (X : Hx) (ma : Int → Int) (kp : List Int → Int) (ko : Int → Int) : Prop :=
  OwS Θ (cwL o CF R s X) ∧ (len CF = 10 ∧ gt CF 3 = s.2.2.1.1) ∧ PoO s.1 X.1 X.2.1 X.2.2.1 s.2.2.1.1 X.2.2.2.2.2.2.2 X.2.2.2.2.2.1 ∧ FoB X.1 ma s.1.2 X.2.2.2.2.2.1 ∧ Kg s.1.2 ∧ len X.2.2.1 = s.2.2.1.2.2.1 ∧ (∀ k, 0 ≤ X.2.2.2.2.2.2.2 k ↔ k ∈ s.2.2.2.1) ∧ KpO s X kp ko ∧
  ((s.2.2.1.2.1 = 0 ∨ 10 ≤ s.2.2.1.2.1) ∧ len X.1 ≤ s.2.2.1.2.1 ∧ s.2.2.1.2.1 ≤ 100000) ∧ ((s.2.2.1.2.2.2 = 0 ∨ 10 ≤ s.2.2.1.2.2.2) ∧ len X.2.2.1 ≤ s.2.2.1.2.2.2 ∧ s.2.2.1.2.2.2 ≤ 100000)
/-- (the boxes lie in one another as they should) -/
def CwI (Θ : Th) (o : Int) (CF : List Int) (R : List It) (s : Cw) (X : Hx) (ma : Int → Int) (kp : List Int → Int) (ko : Int → Int) : Prop := CwG foOk Θ o CF R s X ma kp ko
section CWO
variable {ω : AO} {d G : Nat} {Θ Θ1 : Th} {o kr : Int} {CF : List Int} {R : List It} {s : Cw} {X : Hx} {ma : Int → Int} {kp : List Int → Int} {ko : Int → Int} {k : List Int}
theorem CwI.n (h : CwI Θ o CF R s X ma kp ko) : s.1.2.1 = len X.1 := h.2.2.2.1.1
theorem u_cw_of {Q : Int → Th → Prop} (hd : 24 ≤ d) (I : CwI Θ o CF R s X ma kp ko) (hs : Str Θ kr k) (hw : wide k = 0) (hne : k ≠ []) (kr0 : 0 ≤ kr) (hn : len X.1 < 30000) (hkn : s.2.2.2.1.length < 90000) (hG : (cwOf kp s k).2.2.2.2.2 - s.2.2.2.2 ≤ (G : Int))
    (hQ : ∀ Θ' X', OwT Θ (cwL o CF R s X) Θ' (cwL o CF R (cwOf kp s k).2 X') → CwI Θ' o CF R (cwOf kp s k).2 X' ma kp ko → (∀ j, 0 ≤ j → j < len X.1 → gt X'.1 j = gt X.1 j) → (0 ≤ (cwOf kp s k).1 ∧ (cwOf kp s k).1 < len X'.1) → (len X.1 ≤ len X'.1 ∧ len X'.1 ≤ len X.1 + 1) → Q (gt X'.1 (cwOf kp s k).1) Θ') : w2_X10_of ω d G o kr Θ Q := sorry
end CWO

/-! 85.ag.lean.txt -/
/-! alone, by numbers; into and out of boxes, by numbers -/
set_option maxRecDepth 100000
section CWA
variable {ω : AO} {d G : Nat} {Θ Θ1 : Th} {o kr p c : Int} {CF : List Int} {R : List It} {s : Cw} {X : Hx} {ma : Int → Int} {kp : List Int → Int} {ko : Int → Int} {k : List Int}
theorem u_cw_alG {Kg : Fo → Prop} {Q : Int → Th → Prop} (hKg : ∀ f, Kg f → foDm f ∧ Kg (foNew f)) (hd : 12 ≤ d) (I : CwG Kg Θ o CF R s X ma kp ko) (hn : len X.1 < 30000) (hn2 : len X.2.2.1 < 30000) (hG : (cwAl ko s).2.2.2.2.2 - s.2.2.2.2 ≤ (G : Int))
    (hQ : ∀ Θ' X', OwT Θ (cwL o CF R s X) Θ' (cwL o (CF.set 3 (s.2.2.1.1 + 1)) R (cwAl ko s).2 X') → CwG Kg Θ' o (CF.set 3 (s.2.2.1.1 + 1)) R (cwAl ko s).2 X' ma kp ko → (∀ j, 0 ≤ j → j < len X.1 → gt X'.1 j = gt X.1 j) → ((cwAl ko s).1 = len X.1 ∧ len X'.1 = len X.1 + 1) → Q (gt X'.1 (cwAl ko s).1) Θ') : w2_X10_alone ω d G o Θ Q := sorry
theorem u_cw_al {Q : Int → Th → Prop} (hd : 12 ≤ d) (I : CwI Θ o CF R s X ma kp ko) (hn : len X.1 < 30000) (hn2 : len X.2.2.1 < 30000) (hG : (cwAl ko s).2.2.2.2.2 - s.2.2.2.2 ≤ (G : Int))
    (hQ : ∀ Θ' X', OwT Θ (cwL o CF R s X) Θ' (cwL o (CF.set 3 (s.2.2.1.1 + 1)) R (cwAl ko s).2 X') → CwI Θ' o (CF.set 3 (s.2.2.1.1 + 1)) R (cwAl ko s).2 X' ma kp ko → (∀ j, 0 ≤ j → j < len X.1 → gt X'.1 j = gt X.1 j) → ((cwAl ko s).1 = len X.1 ∧ len X'.1 = len X.1 + 1) → Q (gt X'.1 (cwAl ko s).1) Θ') : w2_X10_alone ω d G o Θ Q := sorry
/-- the box of a number -/
theorem CwG.bx {Kg : Fo → Prop} {j : Int} (I : CwG Kg Θ o CF R s X ma kp ko) (hj : 0 ≤ j ∧ j < s.1.2.1) : gt X.1 j ∈ X.1 ++ X.2.1 ∧ gt X.1 j ∈ X.1 ∧ 0 ≤ gt X.1 j ∧ (0 ≤ j ∧ j < len X.1) := sorry
theorem CwI.bx {j : Int} (I : CwI Θ o CF R s X ma kp ko) (hj : 0 ≤ j ∧ j < s.1.2.1) : gt X.1 j ∈ X.1 ++ X.2.1 ∧ gt X.1 j ∈ X.1 ∧ 0 ≤ gt X.1 j ∧ (0 ≤ j ∧ j < len X.1) := CwG.bx (Kg := foOk) I hj
theorem u_cw_putG {Kg : Fo → Prop} {Q : Th → Prop} (hd : 8 ≤ d) (I : CwG Kg Θ o CF R s X ma kp ko) (hp : 0 ≤ p ∧ p < s.1.2.1) (hc : 0 ≤ c ∧ c < s.1.2.1) (hpc : p ≠ c) (hk' : Kg (foPut s.1.2 p c)) (hcap : adC (s.2.1 p) (len (s.1.2.2.2.2 p)) ≤ 60000000) (hG : (cwPut s p c).2.2.2.2 - s.2.2.2.2 ≤ (G : Int))
    (hQ : ∀ Θ' X', OwT Θ (cwL o CF R s X) Θ' (cwL o CF R (cwPut s p c) X') → CwG Kg Θ' o CF R (cwPut s p c) X' ma kp ko → X'.1 = X.1 → X'.2.2.1 = X.2.2.1 → Q Θ') : w2_X61_put ω d G (gt X.1 p) (gt X.1 c) Θ Q := sorry
theorem u_cw_put {Q : Th → Prop} (hd : 8 ≤ d) (I : CwI Θ o CF R s X ma kp ko) (hp : 0 ≤ p ∧ p < s.1.2.1) (hc : 0 ≤ c ∧ c < s.1.2.1) (hpc : p ≠ c) (hu : s.1.2.2.2.1 c = -1) (hn : ¬ foAnc s.1.2.2.2.1 p c) (hcap : adC (s.2.1 p) (len (s.1.2.2.2.2 p)) ≤ 60000000) (hG : (cwPut s p c).2.2.2.2 - s.2.2.2.2 ≤ (G : Int))
    (hQ : ∀ Θ' X', OwT Θ (cwL o CF R s X) Θ' (cwL o CF R (cwPut s p c) X') → CwI Θ' o CF R (cwPut s p c) X' ma kp ko → X'.1 = X.1 → X'.2.2.1 = X.2.2.1 → Q Θ') : w2_X61_put ω d G (gt X.1 p) (gt X.1 c) Θ Q := sorry
theorem u_cw_lv {Q : Th → Prop} (hd : 3 ≤ d) (I : CwI Θ o CF R s X ma kp ko) (hc : 0 ≤ c ∧ c < s.1.2.1)
    (hQ : ∀ Θ' X', OwT Θ (cwL o CF R s X) Θ' (cwL o CF R (cwLv s c) X') → CwI Θ' o CF R (cwLv s c) X' ma kp ko → X'.1 = X.1 → X'.2.2.1 = X.2.2.1 → Q Θ') : w2_X61_leave ω d G (gt X.1 c) Θ Q := sorry
end CWA

/-! 85.ah.lean.txt -/
/-! whether a box is in another one, by a count; a mail's box -/
set_option maxRecDepth 100000
theorem nod_len : ∀ (n : Nat) (l : List Int), l.Nodup → (∀ x, x ∈ l → 0 ≤ x ∧ x < (n : Int)) → l.length ≤ n := sorry
def anB (u : Int → Int) (o : Int) : Nat → Int → Bool
  | 0, b => decide (b = o)
  | n + 1, b => decide (b = o) || anB u o n (u b)
theorem anB_neg {u : Int → Int} {o : Int} (hm : u (-1) = -1) (h : 0 ≤ o) : ∀ n, anB u o n (-1) = false := sorry
theorem anB_chn {u : Int → Int} {o : Int} (hm : u (-1) = -1) (h : 0 ≤ o) : ∀ (ch : List Int) (b : Int) (n : Nat), chnU u b ch → ch.length ≤ n → (anB u o n b = true ↔ o ∈ b :: ch) := sorry
theorem chn_rk {u : Int → Int} {h : Int → Nat} (hr : rnk u h) : ∀ (ch : List Int) (b : Int), chnU u b ch → (b :: ch).Nodup ∧ ∀ x, x ∈ ch → h x < h b := sorry
theorem anB_ok {s : Fo} {b o : Int} (hk : foOk s) (hb : 0 ≤ b ∧ b < s.1) (h : 0 ≤ o) : anB s.2.2.1 o s.1.toNat b = true ↔ foAnc s.2.2.1 b o := sorry
/-- a box that holds a mail -/
def cwHl (ko : Int → Int) (n : Int) (p : Int × Cw) : Int × Cw := ((if p.2.1.2.2.1 p.1 < 0 then p else cwAl ko p.2).1, cwMsg (if p.2.1.2.2.1 p.1 < 0 then p else cwAl ko p.2).2 (if p.2.1.2.2.1 p.1 < 0 then p else cwAl ko p.2).1 n)
def cwHold (kp : List Int → Int) (ko : Int → Int) (s : Cw) (k : List Int) (n : Int) : Int × Cw :=
  cwHl ko n (if k = [] then cwAl ko s else cwOf kp s k)
/-- boxes of references: the last one -/
def cwRef (kp : List Int → Int) : Cw → Int → List (List Int) → Int × Cw
  | s, last, [] => (last, s)
  | s, last, k :: r =>
    let p := cwOf kp s k
    cwRef kp (if 0 ≤ last ∧ p.2.1.2.2.2.1 p.1 < 0 ∧ anB p.2.1.2.2.2.1 p.1 p.2.1.2.1.toNat last = false then cwPut p.2 last p.1 else p.2) p.1 r
def cwPlace (kp : List Int → Int) (ko : Int → Int) (s : Cw) (k : List Int) (refs : List (List Int)) (n : Int) : Cw :=
  let p := cwRef kp s (-1) refs
  let q := cwHold kp ko p.2 k n
  if p.1 < 0 ∨ anB q.2.1.2.2.2.1 q.1 q.2.1.2.1.toNat p.1 = true then q.2 else cwPut (cwLv q.2 q.1) p.1 q.1
section CWH
variable {ω : AO} {d G g : Nat} {Θ Θ1 : Th} {o m j n : Int} {CF MF : List Int} {R : List It} {s : Cw} {X : Hx} {ma : Int → Int} {kp : List Int → Int} {ko : Int → Int} {k : List Int} {i : Nat}
theorem CwI.w (I : CwI Θ o CF R s X ma kp ko) : PoO s.1 X.1 X.2.1 X.2.2.1 s.2.2.1.1 X.2.2.2.2.2.2.2 X.2.2.2.2.2.1 ∧ FoB X.1 ma s.1.2 X.2.2.2.2.2.1 ∧ foOk s.1.2 := ⟨I.2.2.1, I.2.2.2.1, I.2.2.2.2.1⟩
/-- what the lists' lengths keep to -/
def cwWk (s : Cw) : Prop := (s.2.2.1.2.1 = 0 ∨ 10 ≤ s.2.2.1.2.1) ∧ (0 ≤ s.1.2.1 ∧ s.1.2.1 ≤ s.2.2.1.2.1) ∧ (s.2.2.1.2.2.2 = 0 ∨ 10 ≤ s.2.2.1.2.2.2) ∧ 0 ≤ s.2.2.1.2.2.1 ∧ s.2.2.1.2.2.1 ≤ s.2.2.1.2.2.2
theorem CwI.wk (I : CwI Θ o CF R s X ma kp ko) : cwWk s := sorry
theorem cwOf_geS (h : cwWk s) : 0 ≤ (cwOf kp s k).2.2.2.2.2 - s.2.2.2.2 := sorry
theorem cwAl_geS (h : cwWk s) : 0 ≤ (cwAl ko s).2.2.2.2.2 - s.2.2.2.2 := sorry
theorem cwWk.of (h : cwWk s) : cwWk (cwOf kp s k).2 := sorry
theorem cwWk.al (h : cwWk s) : cwWk (cwAl ko s).2 := sorry
theorem cwOf_ge (I : CwI Θ o CF R s X ma kp ko) : 0 ≤ (cwOf kp s k).2.2.2.2.2 - s.2.2.2.2 := cwOf_geS I.wk
theorem cwAl_ge (I : CwI Θ o CF R s X ma kp ko) : 0 ≤ (cwAl ko s).2.2.2.2.2 - s.2.2.2.2 := cwAl_geS I.wk
theorem cwL_R {x : It} (h : R[i]? = some x) : (cwL o CF R s X)[(bxs (X.1 ++ X.2.1) X.2.2.2.1 X.2.2.2.2.1 X.2.2.2.2.2.1).length + (i + 4)]? = some x := by
  unfold cwL cvL
  rw [apx_at]
  exact h
theorem cwL_S {x : It} : (cwL o CF R s X).set ((bxs (X.1 ++ X.2.1) X.2.2.2.1 X.2.2.2.2.1 X.2.2.2.2.2.1).length + (i + 4)) x = cwL o CF (R.set i x) s X := by
  unfold cwL cvL
  rw [apx_set]
  rfl
/-- the mail comes into the box -/
theorem u_cw_h38 {Q : Int → Th → Prop} (I : CwI Θ o CF R s X ma kp ko) (hj : 0 ≤ j ∧ j < s.1.2.1) (hi : R[i]? = some (obj m (29, MF, 0, 0))) (hm : ma n = m) (n0 : 0 ≤ n) (hg : g ≤ G)
    (hQ : ∀ Θ' X', OwT Θ (cwL o CF R s X) Θ' (cwL o CF (R.set i (obj m (29, MF.set 10 (gt X.1 j), 0, 0))) (cwMsg s j n) X') → CwI Θ' o CF (R.set i (obj m (29, MF.set 10 (gt X.1 j), 0, 0))) (cwMsg s j n) X' ma kp ko → X'.1 = X.1 → X'.2.2.1 = X.2.2.1 → Q (gt X.1 j) Θ') : W2_X10_holding_38 ω d G m (gt X.1 j) g Θ Q := sorry
theorem cf_id (h1 : len CF = 10) (h2 : gt CF 3 = n) : CF.set 3 n = CF := sorry
theorem cf_set {x y : Int} : (CF.set 3 x).set 3 y = CF.set 3 y := by rw [List.set_set]
end CWH

/-! 85.ai.lean.txt -/
/-! holding: the box of a mail -/
set_option maxRecDepth 100000
section HLD
variable {ω : AO} {d G g : Nat} {Θ Θ1 : Th} {o m j n kr : Int} {CF MF : List Int} {R : List It} {s : Cw} {X : Hx} {ma : Int → Int} {kp : List Int → Int} {ko : Int → Int} {k : List Int} {i : Nat}
/-- of and alone leave what they need not change; how many boxes there are -/
theorem cwOf_tk : (cwOf kp s k).2.2.2.1.1 = s.2.2.1.1 := sorry
theorem cwOf_n : s.1.2.1 ≤ (cwOf kp s k).2.1.2.1 ∧ (cwOf kp s k).2.1.2.1 ≤ s.1.2.1 + 1 := sorry
theorem cwOf_ix (I : CwI Θ o CF R s X ma kp ko) (h0 : 0 ≤ s.1.2.1) : 0 ≤ (cwOf kp s k).1 ∧ (cwOf kp s k).1 < (cwOf kp s k).2.1.2.1 := sorry
/-- the second step: another one if there is a mail in it -/
theorem u_cw_h25 {Q : Int → Th → Prop} (hd : 13 ≤ d) (I : CwI Θ o CF R s X ma kp ko) (hj : 0 ≤ j ∧ j < s.1.2.1) (hma : ∀ n, 0 ≤ n → 0 ≤ ma n) (hi : R[i]? = some (obj m (29, MF, 0, 0))) (hm : ma n = m) (n0 : 0 ≤ n) (hn : len X.1 < 30000) (hn2 : len X.2.2.1 < 30000)
    (hG : (g : Int) + ((if s.1.2.2.1 j < 0 then s else (cwAl ko s).2).2.2.2.2 - s.2.2.2.2) ≤ (G : Int))
    (hQ : ∀ Θ' X' R', OwT Θ (cwL o CF R s X) Θ' (cwL o (CF.set 3 (if s.1.2.2.1 j < 0 then s else (cwAl ko s).2).2.2.1.1) R' (cwMsg (if s.1.2.2.1 j < 0 then s else (cwAl ko s).2) (if s.1.2.2.1 j < 0 then j else (cwAl ko s).1) n) X') →
      CwI Θ' o (CF.set 3 (if s.1.2.2.1 j < 0 then s else (cwAl ko s).2).2.2.1.1) R' (cwMsg (if s.1.2.2.1 j < 0 then s else (cwAl ko s).2) (if s.1.2.2.1 j < 0 then j else (cwAl ko s).1) n) X' ma kp ko →
      (∀ q, 0 ≤ q → q < len X.1 → gt X'.1 q = gt X.1 q) → (len X.1 ≤ len X'.1 ∧ len X'.1 ≤ len X.1 + 1) → R' = R.set i (obj m (29, MF.set 10 (gt X'.1 (if s.1.2.2.1 j < 0 then j else (cwAl ko s).1)), 0, 0)) → Q (gt X'.1 (if s.1.2.2.1 j < 0 then j else (cwAl ko s).1)) Θ') : W2_X10_holding_25 ω d G o m (gt X.1 j) g Θ Q := sorry
theorem u_cw_hold {Q : Int → Th → Prop} (hd : 25 ≤ d) (I : CwI Θ o CF R s X ma kp ko) (hma : ∀ n, 0 ≤ n → 0 ≤ ma n) (hi : R[i]? = some (obj m (29, MF, 0, 0))) (hm : ma n = m) (n0 : 0 ≤ n) (hkr : gt MF 1 = kr) (hs : Str Θ kr k) (hw : wide k = 0) (kr0 : 0 ≤ kr) (hn : len X.1 < 20000) (hn2 : len X.2.2.1 < 20000) (hn3 : s.2.2.1.2.2.1 < 20000) (hkn : s.2.2.2.1.length < 80000)
    (hG : (cwHold kp ko s k n).2.2.2.2.2 - s.2.2.2.2 ≤ (G : Int))
    (hQ : ∀ Θ' X' R', OwT Θ (cwL o CF R s X) Θ' (cwL o (CF.set 3 (cwHold kp ko s k n).2.2.2.1.1) R' (cwHold kp ko s k n).2 X') → CwI Θ' o (CF.set 3 (cwHold kp ko s k n).2.2.2.1.1) R' (cwHold kp ko s k n).2 X' ma kp ko →
      (∀ q, 0 ≤ q → q < len X.1 → gt X'.1 q = gt X.1 q) → (len X.1 ≤ len X'.1 ∧ len X'.1 ≤ len X.1 + 2) → (0 ≤ (cwHold kp ko s k n).1 ∧ (cwHold kp ko s k n).1 < len X'.1) → R' = R.set i (obj m (29, MF.set 10 (gt X'.1 (cwHold kp ko s k n).1), 0, 0)) → Q (gt X'.1 (cwHold kp ko s k n).1) Θ') : w2_X10_holding ω d G o m Θ Q := sorry
end HLD

/-! 85.aj.lean.txt -/
/-! refer: a mail comes to its place -/
set_option maxRecDepth 100000
theorem foAnc_fup {u : Int → Int} {c x : Int} : ∀ (k : Nat) (p : Int), foIt (fup u c x) k p = c → foAnc u p c := sorry
/-- how long the lists may get -/
def cwKk (s : Cw) : Prop := ∀ j, 0 ≤ s.2.1 j ∧ s.2.1 j ≤ 200000
def cwStep (kp : List Int → Int) (s : Cw) (last : Int) (k : List Int) : Cw :=
  if 0 ≤ last ∧ (cwOf kp s k).2.1.2.2.2.1 (cwOf kp s k).1 < 0 ∧ anB (cwOf kp s k).2.1.2.2.2.1 (cwOf kp s k).1 (cwOf kp s k).2.1.2.1.toNat last = false then cwPut (cwOf kp s k).2 last (cwOf kp s k).1 else (cwOf kp s k).2
def cwEnd (kp : List Int → Int) (ko : Int → Int) (k : List Int) (n : Int) (p : Int × Cw) : Cw :=
  if p.1 < 0 ∨ anB (cwHold kp ko p.2 k n).2.1.2.2.2.1 (cwHold kp ko p.2 k n).1 (cwHold kp ko p.2 k n).2.1.2.1.toNat p.1 = true then (cwHold kp ko p.2 k n).2 else cwPut (cwLv (cwHold kp ko p.2 k n).2 (cwHold kp ko p.2 k n).1) p.1 (cwHold kp ko p.2 k n).1
theorem cwRef_cons {kp : List Int → Int} {s : Cw} {last : Int} {k : List Int} {r : List (List Int)} : cwRef kp s last (k :: r) = cwRef kp (cwStep kp s last k) (cwOf kp s k).1 r := rfl
theorem cwPlace_end {kp : List Int → Int} {ko : Int → Int} {s : Cw} {k : List Int} {refs : List (List Int)} {n : Int} : cwPlace kp ko s k refs n = cwEnd kp ko k n (cwRef kp s (-1) refs) := rfl
section RFR
variable {ω : AO} {d G g : Nat} {Θ Θ1 : Th} {o m j n kr p c : Int} {CF MF : List Int} {R : List It} {s : Cw} {X : Hx} {ma : Int → Int} {kp : List Int → Int} {ko : Int → Int} {k : List Int} {i : Nat}
theorem cwKk.of (h : cwKk s) (hkp : ∀ k, 0 ≤ kp k ∧ kp k ≤ 200000) : cwKk (cwOf kp s k).2 := sorry
theorem cwKk.al (h : cwKk s) (hko : ∀ i, 0 ≤ ko i ∧ ko i ≤ 200000) : cwKk (cwAl ko s).2 := sorry
theorem cwKk.hold (h : cwKk s) (hkp : ∀ k, 0 ≤ kp k ∧ kp k ≤ 200000) (hko : ∀ i, 0 ≤ ko i ∧ ko i ≤ 200000) : cwKk (cwHold kp ko s k n).2 := sorry
theorem cwWk.hold (h : cwWk s) : cwWk (cwHold kp ko s k n).2 ∧ 0 ≤ (cwHold kp ko s k n).2.2.2.2.2 - s.2.2.2.2 := sorry
theorem ins_len {f : Fo} (h : foOk f) : len (f.2.2.2 p) ≤ f.1 := sorry
theorem cwKk.put (h : cwKk s) (hk : foOk s.1.2) (hn : s.1.2.1 < 40000) : cwKk (cwPut s p c) ∧ 0 ≤ (cwPut s p c).2.2.2.2 - s.2.2.2.2 ∧ adC (s.2.1 p) (len (s.1.2.2.2.2 p)) ≤ 60000000 := sorry
theorem u_cw_within {Q : Int → Th → Prop} (I : CwI Θ o CF R s X ma kp ko) (hp : 0 ≤ p ∧ p < s.1.2.1) (hc : 0 ≤ c ∧ c < s.1.2.1) (hQ : Q (if anB s.1.2.2.2.1 c s.1.2.1.toNat p = true then 1 else 0) Θ) : w2_X61_isWithin ω d G (gt X.1 p) (gt X.1 c) Θ Q := sorry
/-- the end: the mail's box comes into the last of the boxes of its references -/
theorem cwEnd_ge (h : cwWk s) (hK : cwKk s) (hkp : ∀ k, 0 ≤ kp k ∧ kp k ≤ 200000) (hko : ∀ i, 0 ≤ ko i ∧ ko i ≤ 200000) : 0 ≤ (cwEnd kp ko k n (p, s)).2.2.2.2 - s.2.2.2.2 := sorry
end RFR

/-! 85.ak.lean.txt -/
/-! refer: the walk -/
set_option maxRecDepth 100000
def cwInv (s : Cw) : Prop := cwWk s ∧ cwKk s ∧ foOk s.1.2 ∧ (s.1.1.length : Int) = s.1.2.1
section RFW
variable {ω : AO} {d G : Nat} {Θ : Th} {o m n kr p c last : Int} {CF MF K rs : List Int} {R : List It} {s : Cw} {X : Hx} {ma : Int → Int} {kp : List Int → Int} {ko : Int → Int} {k : List Int} {i : Nat}
theorem CwI.inv (I : CwI Θ o CF R s X ma kp ko) (hK : cwKk s) : cwInv s := ⟨I.wk, hK, I.w.2.2, by rw [I.n]; exact I.w.1.1⟩
theorem cwInv.of (h : cwInv s) (hkp : ∀ k, 0 ≤ kp k ∧ kp k ≤ 200000) : cwInv (cwOf kp s k).2 ∧ (0 ≤ (cwOf kp s k).1 ∧ (cwOf kp s k).1 < (cwOf kp s k).2.1.2.1) ∧ (s.1.2.1 ≤ (cwOf kp s k).2.1.2.1 ∧ (cwOf kp s k).2.1.2.1 ≤ s.1.2.1 + 1) ∧ 0 ≤ (cwOf kp s k).2.2.2.2.2 - s.2.2.2.2 := sorry
theorem cwInv.put (h : cwInv s) (hp : 0 ≤ p ∧ p < s.1.2.1) (hc : 0 ≤ c ∧ c < s.1.2.1) (hu : s.1.2.2.2.1 c < 0) (ha : anB s.1.2.2.2.1 c s.1.2.1.toNat p = false) (hn : s.1.2.1 < 40000) : cwInv (cwPut s p c) ∧ 0 ≤ (cwPut s p c).2.2.2.2 - s.2.2.2.2 ∧ s.1.2.2.2.1 c = -1 ∧ ¬ foAnc s.1.2.2.2.1 p c ∧ p ≠ c ∧ adC (s.2.1 p) (len (s.1.2.2.2.2 p)) ≤ 60000000 := sorry
theorem cwInv.step (h : cwInv s) (hl : last = -1 ∨ 0 ≤ last ∧ last < s.1.2.1) (hn : s.1.2.1 < 39000) (hkp : ∀ k, 0 ≤ kp k ∧ kp k ≤ 200000) :
    cwInv (cwStep kp s last k) ∧ (0 ≤ (cwOf kp s k).1 ∧ (cwOf kp s k).1 < (cwStep kp s last k).1.2.1) ∧ (cwStep kp s last k).1.2.1 ≤ s.1.2.1 + 1 ∧ 0 ≤ (cwStep kp s last k).2.2.2.2 - s.2.2.2.2 := sorry
theorem cwInv.ge (hkp : ∀ k, 0 ≤ kp k ∧ kp k ≤ 200000) (hko : ∀ i, 0 ≤ ko i ∧ ko i ≤ 200000) : ∀ (r : List (List Int)) (s : Cw) (last : Int), cwInv s → (last = -1 ∨ 0 ≤ last ∧ last < s.1.2.1) → s.1.2.1 + (r.length : Int) < 39000 → 0 ≤ (cwEnd kp ko k n (cwRef kp s last r)).2.2.2.2 - s.2.2.2.2 := sorry
theorem adr_n {W : List Int} {j : Int} (h : 0 ≤ j) : adr W j = gt W j := sorry
theorem cwHold_m : (cwHold kp ko s k n).2.1.2.2.1 (cwHold kp ko s k n).1 = n := by
  unfold cwHold cwHl
  exact fup_at
theorem cwLv_m {c b : Int} : (cwPut (cwLv s c) p b).1.2.2.1 = s.1.2.2.1 := sorry
theorem kAt_0 {k : List Int} {r : List (List Int)} : kAt (k :: r) 0 = k := rfl
theorem kAt_s {k : List Int} {r : List (List Int)} {q : Int} (h : 0 ≤ q) : kAt (k :: r) (q + 1) = kAt r q := sorry
theorem u_cw_refer {Q : Th → Prop} {refs : List (List Int)} {c' e' : Int} (hd : 30 ≤ d) (I : CwI Θ o CF R s X ma kp ko) (hK : cwKk s) (hkp : ∀ k, 0 ≤ kp k ∧ kp k ≤ 200000) (hko : ∀ i, 0 ≤ ko i ∧ ko i ≤ 200000) (hma : ∀ n, 0 ≤ n → 0 ≤ ma n) (hi : R[i]? = some (obj m (29, MF, 0, 0))) (hm : ma n = m) (n0 : 0 ≤ n)
    (hkr : gt MF 1 = kr) (hs : Str Θ kr k) (hw : wide k = 0) (kr0 : 0 ≤ kr) (hct : Fx Θ (gt MF 3) (32, K, 0, 0)) (hids : Fx Θ (gt K 5) (3, rs, c', e')) (hrs : len rs = (refs.length : Int)) (hst : ∀ q, 0 ≤ q → q < len rs → 0 ≤ gt rs q ∧ Str Θ (gt rs q) (kAt refs q) ∧ wide (kAt refs q) = 0 ∧ kAt refs q ≠ [])
    (hn : len X.1 + len rs < 19000) (hn3 : s.2.2.1.2.2.1 < 19000) (hkn : (s.2.2.2.1.length : Int) + len rs < 79000) (hG : (cwPlace kp ko s k refs n).2.2.2.2 - s.2.2.2.2 ≤ (G : Int))
    (hQ : ∀ Θ' X' R' b, OwT Θ (cwL o CF R s X) Θ' (cwL o (CF.set 3 (cwPlace kp ko s k refs n).2.2.1.1) R' (cwPlace kp ko s k refs n) X') → CwI Θ' o (CF.set 3 (cwPlace kp ko s k refs n).2.2.1.1) R' (cwPlace kp ko s k refs n) X' ma kp ko → (∀ q, 0 ≤ q → q < len X.1 → gt X'.1 q = gt X.1 q) → R' = R.set i (obj m (29, MF.set 10 b, 0, 0)) → (∃ j, (0 ≤ j ∧ j < len X'.1) ∧ (cwPlace kp ko s k refs n).1.2.2.1 j = n ∧ b = gt X'.1 j) → Q Θ') : w2_X10_refer ω d G o m Θ Q := sorry
end RFW

/-! 85.al.lean.txt -/
/-! list: all boxes, each ahead of what is in it -/
set_option maxRecDepth 100000
/-- the stack after n steps; the boxes that were taken from it by then -/
def liS (ins : Int → List Int) : Nat → List Int → List Int
  | 0, st => st
  | _ + 1, [] => []
  | n + 1, b :: st => liS ins n (ins b ++ st)
def liR (ins : Int → List Int) : Nat → List Int → List Int
  | 0, _ => []
  | _ + 1, [] => []
  | n + 1, b :: st => b :: liR ins n (ins b ++ st)
/-- how long the stack gets -/
def liM (ins : Int → List Int) (K : Int) : Nat → List Int → Prop
  | 0, st => len st ≤ K
  | _ + 1, [] => True
  | n + 1, b :: st => len (b :: st) ≤ K ∧ liM ins K n (ins b ++ st)
theorem del_lst {l : List Int} {x : Int} : del (l ++ [x]) (len l) = l := sorry
/-- a capacity after one more, bounded -/
theorem adC_bd {c c0 n K : Int} (h : c = 0 ∨ 10 ≤ c) (h0 : 0 ≤ n) (hn : n ≤ c) (hK : n < K) (h1 : c0 ≤ c) (h2 : c ≤ max c0 (2 * K + 10)) (h00 : 0 ≤ c0) : (adC c n = 0 ∨ 10 ≤ adC c n) ∧ n + 1 ≤ adC c n ∧ c ≤ adC c n ∧ adC c n ≤ max c0 (2 * K + 10) := sorry
section LST
variable {ω : AO} {d G : Nat} {Θ : Th} {o y op rt cr : Int} {CF : List Int} {L : List It} {W : List Int} {s : Fo} {ma : Int → Int} {β : Int → BxR} {la κ : Int → Int} {U : List Int} {io iy ir : Nat}
/-- the store's boxes as a heap shows them -/
def BxsH (Θ : Th) (W : List Int) (la κ : Int → Int) (β : Int → BxR) : Prop := ∀ a, a ∈ W → (bxI a (la a) (κ a) (β a)).2 Θ
theorem u_X10_list {Q : Th → Prop} {ρ : List Int} {n : Nat} {K co cy : Int} {O0 Y0 : List Int} (hd : 10 ≤ d) (hO : OwS Θ L) (ho : xo Θ o = (24, CF, 0, 0)) (hou : o ≠ y ∧ o ≠ gt CF 6) (h6 : gt CF 6 = op) (h4 : gt CF 4 = rt)
    (hio : L[io]? = some (lsI op O0 co)) (hiy : L[iy]? = some (lsI y Y0 cy)) (hne : io ≠ iy) (hrt : ∃ e, xo Θ rt = (3, ρ.map (adr W), cr, e)) (hrn : rt ≠ op ∧ rt ≠ y)
    (hF : FoB W ma s β) (hk : foDm s) (hB : ∀ a, a ∈ W → (∃ e, xo Θ a = (65, [(β a).1, (β a).2.1, la a, (β a).2.2.2.1, (β a).2.2.2.2.1, (β a).2.2.2.2.2.1, (β a).2.2.2.2.2.2], 0, 0) ∧ xo Θ (la a) = (3, (β a).2.2.1, κ a, e)) ∧ a ≠ op ∧ a ≠ y ∧ la a ≠ op ∧ la a ≠ y)
    (hρ : ∀ x, x ∈ ρ → 0 ≤ x ∧ x < s.1) (hfin : liS s.2.2.2 n ρ = []) (hM : liM s.2.2.2 K n ρ) (hn : (n : Int) ≤ K) (hK : K < 1000000) (hρK : len ρ ≤ K) (hcr : len ρ ≤ 1000000) (hco : co = 0 ∨ 10 ≤ co) (hco2 : co ≤ 3000000) (hcy : cy = 0 ∨ 10 ≤ cy) (hcy2 : cy ≤ 3000000) (hG : 2 * (2 * K + 10) ≤ (G : Int))
    (hQ : ∀ Θ' co' cy', OwT Θ L Θ' ((L.set io (lsI op [] co')).set iy (lsI y ((liR s.2.2.2 n ρ).map (adr W)) cy')) → (co' = 0 ∨ 10 ≤ co') → co' ≤ max co (2 * K + 10) → (cy' = 0 ∨ 10 ≤ cy') → cy' ≤ max cy (2 * K + 10) → Q Θ') : w2_X10_list ω d G o y Θ Q := sorry
end LST

/-! 85.am.lean.txt -/
/-! the walk along boxes comes to its end (plain) -/
set_option maxRecDepth 100000
section LIE
variable {s : Fo}
/-- the boxes that live: what lies in one of them lives, too -/
def foCl (s : Fo) (A : Int → Prop) : Prop := 0 ≤ s.1 ∧ ∀ b, A b → 0 ≤ b ∧ b < s.1 ∧ (s.2.2.2 b).Nodup ∧ ∀ c, c ∈ s.2.2.2 b → A c ∧ s.2.2.1 c = b
theorem foOk.cl (h : foOk s) : foCl s (fun b => 0 ≤ b ∧ b < s.1) := sorry
variable {A : Int → Prop}
def liV (s : Fo) (A : Int → Prop) (row st : List Int) : Prop := (row ++ st).Nodup ∧ (∀ x, x ∈ row ++ st → A x) ∧ ∀ x, x ∈ row ++ st → s.2.2.1 x = -1 ∨ s.2.2.1 x ∈ row
theorem liV.step (hk : foCl s A) {row st : List Int} {b : Int} (h : liV s A row (b :: st)) : liV s A (row ++ [b]) (s.2.2.2 b ++ st) := sorry
theorem liV.ln (hk : foCl s A) {row st : List Int} (h : liV s A row st) : (row.length : Int) + (st.length : Int) ≤ s.1 := sorry
theorem liS_end (hk : foCl s A) : ∀ (k : Nat) (row st : List Int), liV s A row st → s.1 ≤ (row.length : Int) + (k : Int) → liS s.2.2.2 k st = [] ∧ liM s.2.2.2 s.1 k st := sorry
/-- from the roots -/
theorem liS_roots (hk : foCl s A) {ρ : List Int} (hn : ρ.Nodup) (hr : ∀ x, x ∈ ρ → A x ∧ s.2.2.1 x = -1) : liS s.2.2.2 s.1.toNat ρ = [] ∧ liM s.2.2.2 s.1 s.1.toNat ρ := sorry
end LIE

/-! 85.an.lean.txt -/
/-! what is owned, shown anew; prune -/
set_option maxRecDepth 100000
section REO
variable {Θ Θ1 : Th} {ex : Int → Prop} {L L' : List It}
theorem fpr_cg (hf : L'.map (fun x => x.1) = L.map (fun x => x.1)) : fpr L' = fpr L := sorry
/-- a frame, and items of the same places that hold at its end: a step -/
theorem OwT.re (hO : OwS Θ L) (g : GrX ex Θ Θ1) (he : ∀ z, ex z → 0 < kd Θ z → z ∈ fpr L) (hf : L'.map (fun x => x.1) = L.map (fun x => x.1)) (hp : ∀ x, x ∈ L' → x.2 Θ1 ∧ stb x) : OwT Θ L Θ1 L' := sorry
end REO
/-- the store of boxes s shows itself in those boxes of W that live (A) -/
def FoG (W : List Int) (ma : Int → Int) (A : Int → Prop) (s : Fo) (β : Int → BxR) : Prop := s.1 = len W ∧ W.Nodup ∧ (∀ a, a ∈ W → 0 ≤ a) ∧ ∀ j, 0 ≤ j → j < len W → A j → (β (gt W j)).1 = (if s.2.1 j < 0 then -1 else ma (s.2.1 j)) ∧ (β (gt W j)).2.1 = adr W (s.2.2.1 j) ∧ (β (gt W j)).2.2.1 = (s.2.2.2 j).map (adr W) ∧ (β (gt W j)).2.2.2.1 = 1
section FOG
variable {W : List Int} {ma : Int → Int} {A A' : Int → Prop} {s : Fo} {β : Int → BxR} {j k : Int}
theorem FoB.g (h : FoB W ma s β) : FoG W ma A s β := ⟨h.1, h.2.1, h.2.2.1, fun j j0 j1 _ => h.2.2.2 j j0 j1⟩
theorem FoG.sub (h : FoG W ma A s β) (hA : ∀ j, A' j → A j) : FoG W ma A' s β := sorry
theorem FoG.row (h : FoG W ma A s β) (hj : 0 ≤ j ∧ j < s.1) (ha : A j) : (β (gt W j)).1 = (if s.2.1 j < 0 then -1 else ma (s.2.1 j)) ∧ (β (gt W j)).2.1 = adr W (s.2.2.1 j) ∧ (β (gt W j)).2.2.1 = (s.2.2.2 j).map (adr W) ∧ (β (gt W j)).2.2.2.1 = 1 := h.2.2.2 j hj.1 (by rw [← h.1]; exact hj.2) ha
theorem FoG.inj (h : FoG W ma A s β) (hj : 0 ≤ j ∧ j < s.1) (hk : 0 ≤ k ∧ k < s.1) (e : gt W j = gt W k) : j = k := sorry
end FOG
/-- what is left of boxes when they were pruned -/
def prK (s : Fo) (root : Bool) (b : Int) : Bool := decide (0 ≤ s.2.1 b) || (root && decide (1 < len (s.2.2.2 b)))
def prF (s : Fo) (root : Bool) (l : List Int) : List Int := l.flatMap (fun b => if prK s root b = true then [b] else s.2.2.2 b)
theorem prF_cons {s : Fo} {root : Bool} {b : Int} {l : List Int} : prF s root (b :: l) = (if prK s root b = true then [b] else s.2.2.2 b) ++ prF s root l := by
  unfold prF
  rw [List.flatMap_cons]
section PRN
variable {ω : AO} {d G : Nat} {Θ : Th} {o l1 l2 sm : Int} {CF W : List Int} {s : Fo} {root : Bool} {la κ : Int → Int} {β : Int → BxR} {ma : Int → Int}
/-- the boxes as a heap shows them -/
def bxRow (la : Int → Int) (β : Int → BxR) (a : Int) : Cl := (65, [(β a).1, (β a).2.1, la a, (β a).2.2.2.1, (β a).2.2.2.2.1, (β a).2.2.2.2.2.1, (β a).2.2.2.2.2.2], 0, 0)
/-- the first half: what is left is gathered -/
theorem u_pr9 {Q : Th → Prop} {B : List Int} {c1 e1 K cs : Int} (hd : 10 ≤ d) (hroot : l2 < 0 ↔ root = true) (ho : xo Θ o = (24, CF, 0, 0)) (hsm : gt CF 7 = sm) (hos : o ≠ sm) (h1 : xo Θ l1 = (3, B.map (gt W), c1, e1)) (h1s : l1 ≠ sm) (hma : ∀ n, 0 ≤ n → 0 ≤ ma n) (hBn : len B ≤ 1000000)
    (hB : ∀ b, b ∈ B → 0 ≤ gt W b ∧ xo Θ (gt W b) = bxRow la β (gt W b) ∧ gt W b ≠ sm ∧ (β (gt W b)).1 = (if s.2.1 b < 0 then -1 else ma (s.2.1 b)) ∧ (∃ c e, xo Θ (la (gt W b)) = (3, (s.2.2.2 b).map (gt W), c, e)) ∧ la (gt W b) ≠ sm ∧ len (s.2.2.2 b) ≤ 1000000 ∧ ∀ x, x ∈ s.2.2.2 b → 0 ≤ gt W x ∧ kd Θ (gt W x) = 65 ∧ gt W x ≠ sm)
    (hK : len (prF s root B) ≤ K) (hK2 : K < 1000000) (hcs : cs = 0 ∨ 10 ≤ cs) (hcs2 : cs ≤ 3000000) (g0 : Nat) (hG : (g0 : Int) + (2 * K + 10) ≤ (G : Int)) (h2 : ∃ e, xo Θ sm = (3, [], cs, e)) (hf2 : ¬ fz Θ sm) (hf1 : ¬ fz Θ l1)
    (hQ : ∀ Θ' cs' e' (g : Nat), GrX (fun z => z = sm) Θ Θ' → xo Θ' sm = (3, (prF s root B).map (gt W), cs', e') → ¬ fz Θ' sm → (cs' = 0 ∨ 10 ≤ cs') → cs' ≤ max cs (2 * K + 10) → (g : Int) ≤ (g0 : Int) + (2 * K + 10) → ∀ k Θ2, Θ2 = uq Θ' l1 (3, [], c1, k) → W2_X10_prune_119 ω d G o l1 l2 0 g Θ2 Q) : W2_X10_prune_9 ω d G o l1 l2 0 g0 Θ Q := sorry
end PRN

/-! 85.ao.lean.txt -/
/-! prune's second half: what is left comes back to the list -/
set_option maxRecDepth 100000
/-- a capacity after so many came to an empty list -/
def adK (c : Int) : Nat → Int
  | 0 => c
  | n + 1 => adC (adK c n) (n : Int)
theorem adK_ok {c : Int} (h : c = 0 ∨ 10 ≤ c) : ∀ n : Nat, (adK c n = 0 ∨ 10 ≤ adK c n) ∧ (n : Int) ≤ adK c n ∧ c ≤ adK c n ∧ adK c n ≤ max c (2 * (n : Int) + 10) := sorry
theorem adK_mono {c : Int} (h : c = 0 ∨ 10 ≤ c) {n m : Nat} (hn : n ≤ m) : adK c n ≤ adK c m := sorry
section PR2
variable {ω : AO} {d G : Nat} {Θ : Th} {o l1 l2 sm : Int} {CF W : List Int}
theorem u_pr119 {Q : Th → Prop} {P : List Int} {Fx : Int → List Int} {c1 cs e1 e2 : Int} (hd : 10 ≤ d) (ho : xo Θ o = (24, CF, 0, 0)) (hsm : gt CF 7 = sm) (h2 : xo Θ sm = (3, P.map (gt W), cs, e2)) (h1 : xo Θ l1 = (3, [], c1, e1)) (hf1 : ¬ fz Θ l1) (hc1 : c1 = 0 ∨ 10 ≤ c1) (hc2 : c1 ≤ 3000000) (hl2 : -1 ≤ l2) (hls : l1 ≠ sm ∧ o ≠ l1) (hPn : P.Nodup) (hPl : P.length < 1000000)
    (hP : ∀ x, x ∈ P → 0 ≤ gt W x ∧ xo Θ (gt W x) = (65, Fx x, 0, 0) ∧ ¬ fz Θ (gt W x) ∧ gt W x ≠ l1 ∧ gt W x ≠ sm ∧ gt W x ≠ o) (hinj : ∀ x y, x ∈ P → y ∈ P → gt W x = gt W y → x = y) (g0 : Nat) (hG : (g0 : Int) + (adK c1 P.length - c1) ≤ (G : Int))
    (hQ : ∀ Θ' e', GrX (fun z => z = l1 ∨ ∃ x, x ∈ P ∧ z = gt W x) Θ Θ' → xo Θ' l1 = (3, P.map (gt W), adK c1 P.length, e') → ¬ fz Θ' l1 → (∀ x, x ∈ P → xo Θ' (gt W x) = (65, (Fx x).set 1 l2, 0, 0) ∧ ¬ fz Θ' (gt W x)) → Q Θ') : W2_X10_prune_119 ω d G o l1 l2 0 g0 Θ Q := sorry
end PR2

/-! 85.ap.lean.txt -/
/-! prune: both halves together -/
set_option maxRecDepth 100000
/-- what a list of boxes holds after it was pruned comes into p (-1: into none) -/
def foPr (s : Fo) (p : Int) (P : List Int) : Fo := (s.1, s.2.1, fun x => if x ∈ P then p else s.2.2.1 x, if p < 0 then s.2.2.2 else fup s.2.2.2 p P)
/-- .. as the boxes hold it: q the box's place (-1) -/
def bxPr (W P : List Int) (q : Int) (β : Int → BxR) : Int → BxR := fun a => ((β a).1, if a ∈ P.map (gt W) then q else (β a).2.1, if a = q then P.map (gt W) else (β a).2.2.1, (β a).2.2.2)
section PRW
variable {ω : AO} {d G : Nat} {Θ : Th} {o l1 l2 sm : Int} {CF W : List Int} {s : Fo} {root : Bool} {la κ : Int → Int} {β : Int → BxR} {ma : Int → Int}
theorem u_prX {Q : Th → Prop} {B S0 : List Int} {c1 e1 cs e0 : Int} (hd : 10 ≤ d) (hroot : l2 < 0 ↔ root = true) (ho : xo Θ o = (24, CF, 0, 0)) (hsm : gt CF 7 = sm) (hos : o ≠ sm) (h1 : xo Θ l1 = (3, B.map (gt W), c1, e1)) (h1s : l1 ≠ sm) (hol : o ≠ l1) (hma : ∀ n, 0 ≤ n → 0 ≤ ma n) (hBn : len B ≤ 1000000)
    (hB : ∀ b, b ∈ B → 0 ≤ gt W b ∧ xo Θ (gt W b) = bxRow la β (gt W b) ∧ gt W b ≠ sm ∧ (β (gt W b)).1 = (if s.2.1 b < 0 then -1 else ma (s.2.1 b)) ∧ (∃ c e, xo Θ (la (gt W b)) = (3, (s.2.2.2 b).map (gt W), c, e)) ∧ la (gt W b) ≠ sm ∧ len (s.2.2.2 b) ≤ 1000000 ∧ ∀ x, x ∈ s.2.2.2 b → 0 ≤ gt W x ∧ kd Θ (gt W x) = 65 ∧ gt W x ≠ sm)
    (hK2 : len (prF s root B) < 1000000) (hcs : cs = 0 ∨ 10 ≤ cs) (hcs2 : cs ≤ 3000000) (h2 : xo Θ sm = (3, S0, cs, e0)) (hf2 : ¬ fz Θ sm) (hf1 : ¬ fz Θ l1) (hc1 : c1 = 0 ∨ 10 ≤ c1) (hc2 : c1 ≤ 3000000) (hl2 : -1 ≤ l2) (hPn : (prF s root B).Nodup)
    (hP : ∀ x, x ∈ prF s root B → 0 ≤ gt W x ∧ xo Θ (gt W x) = bxRow la β (gt W x) ∧ ¬ fz Θ (gt W x) ∧ gt W x ≠ l1 ∧ gt W x ≠ sm ∧ gt W x ≠ o) (hinj : ∀ x y, x ∈ prF s root B → y ∈ prF s root B → gt W x = gt W y → x = y)
    (hG : 2 * len (prF s root B) + 10 + (adK c1 (prF s root B).length - c1) ≤ (G : Int))
    (hQ : ∀ Θ' cs' e' e2, GrX (fun z => z = sm ∨ z = l1 ∨ ∃ x, x ∈ prF s root B ∧ z = gt W x) Θ Θ' → xo Θ' sm = (3, (prF s root B).map (gt W), cs', e') → ¬ fz Θ' sm → (cs' = 0 ∨ 10 ≤ cs') → cs' ≤ max cs (2 * len (prF s root B) + 10) → xo Θ' l1 = (3, (prF s root B).map (gt W), adK c1 (prF s root B).length, e2) → ¬ fz Θ' l1 →
      (∀ x, x ∈ prF s root B → xo Θ' (gt W x) = (65, [(β (gt W x)).1, l2, la (gt W x), (β (gt W x)).2.2.2.1, (β (gt W x)).2.2.2.2.1, (β (gt W x)).2.2.2.2.2.1, (β (gt W x)).2.2.2.2.2.2], 0, 0) ∧ ¬ fz Θ' (gt W x)) → Q Θ') : w2_X10_prune ω d G o l1 l2 Θ Q := sorry
end PRW
section FPR
variable {W P : List Int} {ma : Int → Int} {s : Fo} {β : Int → BxR} {p j : Int}
theorem foDm.pr (h : foDm s) (hp : p = -1 ∨ 0 ≤ p ∧ p < s.1) (hP : ∀ x, x ∈ P → 0 ≤ x ∧ x < s.1) : foDm (foPr s p P) := sorry
theorem FoB.pr (h : FoB W ma s β) (hp : p = -1 ∨ 0 ≤ p ∧ p < s.1) (hP : ∀ x, x ∈ P → 0 ≤ x ∧ x < s.1) : FoB W ma (foPr s p P) (bxPr W P (adr W p) β) := sorry
/-- what is left lies among the boxes -/
theorem prF_in {root : Bool} {B : List Int} (h : foDm s) (hB : ∀ x, x ∈ B → 0 ≤ x ∧ x < s.1) : ∀ x, x ∈ prF s root B → 0 ≤ x ∧ x < s.1 := sorry
end FPR

/-! 85.aq.lean.txt -/
/-! prune by numbers -/
set_option maxRecDepth 100000
section RE2
variable {Θ Θ1 : Th} {ex : Int → Prop} {L L' T T' : List It} {X : List Int} {la κ κ' : Int → Int} {β β' : Int → BxR}
/-- items of the same places, each as it was and not touched, or holding at the end -/
theorem OwT.re2 (hO : OwS Θ L) (g : GrX ex Θ Θ1) (he : ∀ z, ex z → 0 < kd Θ z → z ∈ fpr L) (hl : L'.length = L.length) (h : ∀ (n : Nat) (x y : It), L[n]? = some x → L'[n]? = some y → y.1 = x.1 ∧ ((y = x ∧ ∀ z, z ∈ x.1 → ¬ ex z) ∨ (y.2 Θ1 ∧ stb y))) : OwT Θ L Θ1 L' := sorry
theorem bxs_re (hO : OwS Θ (bxs X la κ β ++ T)) (g : GrX ex Θ Θ1) (he : ∀ z, ex z → 0 < kd Θ z → z ∈ fpr (bxs X la κ β ++ T)) (hl : T'.length = T.length) (hb : ∀ a, a ∈ X → (bxI a (la a) (κ' a) (β' a)).2 Θ1)
    (hT : ∀ (n : Nat) (x y : It), T[n]? = some x → T'[n]? = some y → y.1 = x.1 ∧ ((y = x ∧ ∀ z, z ∈ x.1 → ¬ ex z) ∨ (y.2 Θ1 ∧ stb y))) : OwT Θ (bxs X la κ β ++ T) Θ1 (bxs X la κ' β' ++ T') := sorry
/-- places of boxes, and of what else there is -/
theorem bxs_fpr {z a : Int} (ha : a ∈ X) (hz : z = a ∨ z = la a) : z ∈ fpr (bxs X la κ β ++ T) := sorry
theorem bxs_ne (hO : OwS Θ (bxs X la κ β ++ T)) {x : It} (hx : x ∈ T) {z a : Int} (hz : z ∈ x.1) (ha : a ∈ X) : a ≠ z ∧ la a ≠ z := sorry
theorem bxs_la (hO : OwS Θ (bxs X la κ β ++ T)) {a b : Int} (ha : a ∈ X) (hb : b ∈ X) (h : a ≠ b) : la a ≠ la b := sorry
end RE2
section PRB
variable {ω : AO} {d G : Nat} {Θ Θ1 : Th} {T : List It} {X W P : List Int} {la κ : Int → Int} {β : Int → BxR} {q l1 sm c' e' : Int}
/-- a box after prune -/
theorem pr_box {a : Int} (hO : OwS Θ (bxs X la κ β ++ T)) (ha : a ∈ X) (a0 : 0 ≤ a) (g : GrX (fun z => z = sm ∨ z = l1 ∨ ∃ x, x ∈ P ∧ z = gt W x) Θ Θ1) (hPX : ∀ x, x ∈ P → gt W x ∈ X) (hsm : kd Θ sm = 3) (hl1 : kd Θ l1 = 3) (hne : ∀ b, b ∈ X → la b ≠ sm) (hq : (q ∈ X ∧ l1 = la q) ∨ (q = -1 ∧ ∀ b, b ∈ X → la b ≠ l1))
    (hP : ∀ x, x ∈ P → xo Θ1 (gt W x) = (65, [(β (gt W x)).1, q, la (gt W x), (β (gt W x)).2.2.2.1, (β (gt W x)).2.2.2.2.1, (β (gt W x)).2.2.2.2.2.1, (β (gt W x)).2.2.2.2.2.2], 0, 0) ∧ ¬ fz Θ1 (gt W x)) (hl : xo Θ1 l1 = (3, P.map (gt W), c', e')) (hfl : ¬ fz Θ1 l1) (hc : (c' = 0 ∨ 10 ≤ c') ∧ len P ≤ c') :
    (bxI a (la a) (fup κ q c' a) (bxPr W P q β a)).2 Θ1 := sorry
end PRB
/-- prune, with what it costs: the roots are what is in -1 -/
def cwPr (s : Cw) (p : Int) (P : List Int) : Cw := ((s.1.1, foPr s.1.2 p P), fup s.2.1 p (adK (s.2.1 p) P.length), s.2.2.1, s.2.2.2.1, s.2.2.2.2 + (2 * len P + 10 + (adK (s.2.1 p) P.length - s.2.1 p)))
section PRC
variable {ω : AO} {d G : Nat} {Θ Θ1 : Th} {o p : Int} {CF : List Int} {R : List It} {s : Cw} {X : Hx} {ma : Int → Int} {kp : List Int → Int} {ko : Int → Int} {i i4 : Nat} {ρ S0 : List Int} {cs : Int}
/-- what the heap shows of boxes, for prune -/
theorem CwG.hB (I : CwG foDm Θ o CF R s X ma kp ko) (hi : R[i]? = some (lsI (gt CF 7) S0 cs)) (hln : ∀ b, len (s.1.2.2.2.2 b) ≤ 1000000) {b : Int} (hb : 0 ≤ b ∧ b < s.1.2.1) :
    0 ≤ gt X.1 b ∧ xo Θ (gt X.1 b) = bxRow X.2.2.2.1 X.2.2.2.2.2.1 (gt X.1 b) ∧ gt X.1 b ≠ gt CF 7 ∧ (X.2.2.2.2.2.1 (gt X.1 b)).1 = (if s.1.2.2.1 b < 0 then -1 else ma (s.1.2.2.1 b)) ∧ (∃ c e, xo Θ (X.2.2.2.1 (gt X.1 b)) = (3, (s.1.2.2.2.2 b).map (gt X.1), c, e)) ∧ X.2.2.2.1 (gt X.1 b) ≠ gt CF 7 ∧ len (s.1.2.2.2.2 b) ≤ 1000000 ∧ ∀ x, x ∈ s.1.2.2.2.2 b → 0 ≤ gt X.1 x ∧ kd Θ (gt X.1 x) = 65 ∧ gt X.1 x ≠ gt CF 7 := sorry
end PRC

/-! 85.ar.lean.txt -/
/-! prune by numbers: a box, the roots -/
set_option maxRecDepth 100000
section PRT
variable {Θ Θ1 : Th} {ex : Int → Prop} {T : List It} {X : List Int} {la κ : Int → Int} {β : Int → BxR} {x0 x1 Y Y1 : It} {m m1 : Nat}
theorem pr_T1 (hO : OwS Θ (bxs X la κ β ++ T)) (hm : T[m]? = some x0) (hY1 : Y.1 = x0.1) (hY : Y.2 Θ1 ∧ stb Y) (hex : ∀ z, ex z → z ∈ x0.1 ∨ ∃ a, a ∈ X ∧ (a = z ∨ la a = z)) :
    ∀ (n : Nat) (x y : It), T[n]? = some x → (T.set m Y)[n]? = some y → y.1 = x.1 ∧ ((y = x ∧ ∀ z, z ∈ x.1 → ¬ ex z) ∨ (y.2 Θ1 ∧ stb y)) := sorry
theorem pr_T2 (hO : OwS Θ (bxs X la κ β ++ T)) (hm : T[m]? = some x0) (hm1 : T[m1]? = some x1) (hne : m ≠ m1) (hY1 : Y.1 = x0.1) (hY : Y.2 Θ1 ∧ stb Y) (hZ1 : Y1.1 = x1.1) (hZ : Y1.2 Θ1 ∧ stb Y1) (hex : ∀ z, ex z → z ∈ x0.1 ∨ z ∈ x1.1 ∨ ∃ a, a ∈ X ∧ (a = z ∨ la a = z)) :
    ∀ (n : Nat) (x y : It), T[n]? = some x → ((T.set m Y).set m1 Y1)[n]? = some y → y.1 = x.1 ∧ ((y = x ∧ ∀ z, z ∈ x.1 → ¬ ex z) ∨ (y.2 Θ1 ∧ stb y)) := sorry
end PRT
section PRC2
variable {ω : AO} {d G : Nat} {Θ Θ1 : Th} {o p : Int} {CF : List Int} {R : List It} {s : Cw} {X : Hx} {ma : Int → Int} {kp : List Int → Int} {ko : Int → Int} {i i4 : Nat} {ρ S0 : List Int} {cs : Int}
/-- the items that are no boxes -/
def cwT (o : Int) (CF : List Int) (R : List It) (s : Cw) (X : Hx) : List It := obj o (24, CF, 0, 0) :: lsI (gt CF 2) X.1 s.2.2.1.2.1 :: lsI (gt CF 1) X.2.2.1 s.2.2.1.2.2.2 :: hmS (gt CF 0) X.2.2.2.2.2.2.1 (s.2.2.2.1.length : Int) X.2.2.2.2.2.2.2 :: R
theorem cwL_T : cwL o CF R s X = bxs (X.1 ++ X.2.1) X.2.2.2.1 X.2.2.2.2.1 X.2.2.2.2.2.1 ++ cwT o CF R s X := rfl
theorem cwT_R {x : It} (h : R[i]? = some x) : (cwT o CF R s X)[i + 4]? = some x := h
theorem cwT_S {y : It} : (cwT o CF R s X).set (i + 4) y = cwT o CF (R.set i y) s X := rfl
/-- what stays as it is when boxes alone are altered -/
theorem KpO.pr {κ' : Int → Int} {kn' : Int → Int} {β' : Int → BxR} {cv' : Cv} {q c' : Int} (h : KpO s X kp ko) (hP : PoO s.1 X.1 X.2.1 X.2.2.1 s.2.2.1.1 X.2.2.2.2.2.2.2 X.2.2.2.2.2.1) (hF : FoB X.1 ma s.1.2 X.2.2.2.2.2.1) (hp : q = -1 ∨ 0 ≤ q ∧ q < s.1.2.1) (hcv : cv'.1 = s.1.1) :
    KpO (cv', fup s.2.1 q c', s.2.2) (X.1, X.2.1, X.2.2.1, X.2.2.2.1, fup X.2.2.2.2.1 (adr X.1 q) c', β', X.2.2.2.2.2.2) kp ko := sorry
theorem PoO.pr {P : List Int} {q : Int} (h : PoO s.1 X.1 X.2.1 X.2.2.1 s.2.2.1.1 X.2.2.2.2.2.2.2 X.2.2.2.2.2.1) (hq : q = -1 ∨ q ∈ X.1) (hP : ∀ x, x ∈ P → gt X.1 x ∈ X.1) {f : Fo} : PoO (s.1.1, f) X.1 X.2.1 X.2.2.1 s.2.2.1.1 X.2.2.2.2.2.2.2 (bxPr X.1 P q X.2.2.2.2.2.1) := sorry
theorem u_cw_prB {Q : Th → Prop} {P : List Int} (hd : 10 ≤ d) (I : CwG foDm Θ o CF R s X ma kp ko) (hp : 0 ≤ p ∧ p < s.1.2.1) (hi : R[i]? = some (lsI (gt CF 7) S0 cs)) (hma : ∀ n, 0 ≤ n → 0 ≤ ma n) (hcs : cs = 0 ∨ 10 ≤ cs) (hcs2 : cs ≤ 3000000) (hln : ∀ b, len (s.1.2.2.2.2 b) ≤ 1000000) (hPe : prF s.1.2 false (s.1.2.2.2.2 p) = P) (hK : len P < 1000000) (hPn : P.Nodup) (hcp : s.2.1 p ≤ 3000000)
    (hG : (cwPr s p P).2.2.2.2 - s.2.2.2.2 ≤ (G : Int))
    (hQ : ∀ Θ' X' cs', OwT Θ (cwL o CF R s X) Θ' (cwL o CF (R.set i (lsI (gt CF 7) (P.map (gt X.1)) cs')) (cwPr s p P) X') → CwG foDm Θ' o CF (R.set i (lsI (gt CF 7) (P.map (gt X.1)) cs')) (cwPr s p P) X' ma kp ko → X'.1 = X.1 → X'.2.2.1 = X.2.2.1 → X'.2.2.2.1 = X.2.2.2.1 → (cs' = 0 ∨ 10 ≤ cs') → cs' ≤ max cs (2 * len P + 10) → Q Θ') : w2_X10_prune ω d G o (X.2.2.2.1 (gt X.1 p)) (gt X.1 p) Θ Q := sorry
/-- the roots -/
theorem u_cw_prR {Q : Th → Prop} {P : List Int} (hd : 10 ≤ d) (I : CwG foDm Θ o CF R s X ma kp ko) (hi : R[i]? = some (lsI (gt CF 7) S0 cs)) (hi4 : R[i4]? = some (lsI (gt CF 4) (ρ.map (gt X.1)) (s.2.1 (-1)))) (h47 : i ≠ i4) (hρ : ∀ x, x ∈ ρ → 0 ≤ x ∧ x < s.1.2.1) (hρn : len ρ ≤ 1000000) (hma : ∀ n, 0 ≤ n → 0 ≤ ma n) (hcs : cs = 0 ∨ 10 ≤ cs) (hcs2 : cs ≤ 3000000) (hln : ∀ b, len (s.1.2.2.2.2 b) ≤ 1000000) (hPe : prF s.1.2 true ρ = P) (hK : len P < 1000000) (hPn : P.Nodup) (hc4 : s.2.1 (-1) = 0 ∨ 10 ≤ s.2.1 (-1)) (hcp : s.2.1 (-1) ≤ 3000000)
    (hG : (cwPr s (-1) P).2.2.2.2 - s.2.2.2.2 ≤ (G : Int))
    (hQ : ∀ Θ' X' cs', OwT Θ (cwL o CF R s X) Θ' (cwL o CF ((R.set i (lsI (gt CF 7) (P.map (gt X.1)) cs')).set i4 (lsI (gt CF 4) (P.map (gt X.1)) ((cwPr s (-1) P).2.1 (-1)))) (cwPr s (-1) P) X') → CwG foDm Θ' o CF ((R.set i (lsI (gt CF 7) (P.map (gt X.1)) cs')).set i4 (lsI (gt CF 4) (P.map (gt X.1)) ((cwPr s (-1) P).2.1 (-1)))) (cwPr s (-1) P) X' ma kp ko → X'.1 = X.1 → X'.2.2.1 = X.2.2.1 → X'.2.2.2.1 = X.2.2.2.1 → (cs' = 0 ∨ 10 ≤ cs') → cs' ≤ max cs (2 * len P + 10) → Q Θ') : w2_X10_prune ω d G o (gt CF 4) (-1) Θ Q := sorry
end PRC2

/-! 85.as.lean.txt -/
/-! choose: the chiefs of subjects -/
set_option maxRecDepth 100000
/-- a box as the heap shows it -/
def BxV (Θ : Th) (W : List Int) (la : Int → Int) (ma : Int → Int) (s : Fo) (b : Int) : Prop :=
  0 ≤ gt W b ∧ ∃ F c e, xo Θ (gt W b) = (65, F, 0, 0) ∧ gt F 0 = (if s.2.1 b < 0 then -1 else ma (s.2.1 b)) ∧ gt F 1 = adr W (s.2.2.1 b) ∧ gt F 2 = la (gt W b) ∧ xo Θ (la (gt W b)) = (3, (s.2.2.2 b).map (gt W), c, e)
/-- a box's subject; whether it is a reply -/
def sbX (s : Fo) (sb : Int → List Int) (b : Int) : List Int := if s.2.1 b < 0 then sb (s.2.1 (gt (s.2.2.2 b) 0)) else sb (s.2.1 b)
def rpX (s : Fo) (rp : Int → Bool) (b : Int) : Bool := if s.2.1 b < 0 then false else rp (s.2.1 b)
/-- whether b is a better chief than c -/
def chB (s : Fo) (rp : Int → Bool) (b c : Int) : Bool := (decide (s.2.1 b < 0) && decide (0 ≤ s.2.1 c)) || (decide (0 ≤ s.2.1 b) && !rpX s rp b && rpX s rp c)
def chS (s : Fo) (sb : Int → List Int) (rp : Int → Bool) (z : List (List Int) × List Int) (b : Int) : List (List Int) × List Int :=
  if sbX s sb b = [] then z else if kIx (sbX s sb b) z.1 < 0 then (z.1 ++ [sbX s sb b], z.2 ++ [b]) else if chB s rp b (gt z.2 (kIx (sbX s sb b) z.1)) = true then (z.1, z.2.set (kIx (sbX s sb b) z.1).toNat b) else z
theorem isix_kix {ws : List (List Int)} {t : List Int} {r : Int} (h : IsIx ws t r) : r = kIx t ws := sorry
section CHO
variable {ω : AO} {d G : Nat} {Θ Θ1 : Th} {o b x : Int} {CF W : List Int} {la : Int → Int} {ma : Int → Int} {s : Fo} {sb : Int → List Int} {rp : Int → Bool} {tm : Int → Int} {ex : Int → Prop}
theorem BxV.gr (h : BxV Θ W la ma s b) (g : GrX ex Θ Θ1) (h1 : ¬ ex (gt W b)) (h2 : ¬ ex (la (gt W b))) : BxV Θ1 W la ma s b := sorry
theorem MlB.gr {m n base rep time} (h : MlB Θ m n base rep time) (g : GrX ex Θ Θ1) (h1 : ¬ ex m) : MlB Θ1 m n base rep time := sorry
theorem u_V_isEmpty {Q : Int → Th → Prop} (h : BxV Θ W la ma s b) (hma : ∀ n, 0 ≤ n → 0 ≤ ma n) (hQ : Q (if s.2.1 b < 0 then 1 else 0) Θ) : w2_X61_isEmpty ω d G (gt W b) Θ Q := sorry
theorem u_V_isReply {Q : Int → Th → Prop} (hd : 1 ≤ d) (h : BxV Θ W la ma s b) (hma : ∀ n, 0 ≤ n → 0 ≤ ma n) (hM : 0 ≤ s.2.1 b → MlB Θ (ma (s.2.1 b)) (s.2.1 b) (sb (s.2.1 b)) (rp (s.2.1 b)) (tm (s.2.1 b))) (hQ : Q (if rpX s rp b = true then 1 else 0) Θ) : w2_X61_isReply ω d G (gt W b) Θ Q := sorry
theorem u_V_subject {Q : Int → Th → Prop} (hd : 4 ≤ d) (h : BxV Θ W la ma s b) (hma : ∀ n, 0 ≤ n → 0 ≤ ma n) (hE : s.2.1 b < 0 → 0 < len (s.2.2.2 b) ∧ 0 ≤ s.2.1 (gt (s.2.2.2 b) 0) ∧ BxV Θ W la ma s (gt (s.2.2.2 b) 0)) (hM : ∀ n, 0 ≤ s.2.1 n → MlB Θ (ma (s.2.1 n)) (s.2.1 n) (sb (s.2.1 n)) (rp (s.2.1 n)) (tm (s.2.1 n)))
    (hQ : ∀ z, Str Θ z (sbX s sb b) → Q z Θ) : w2_X61_subject ω d G (gt W b) Θ Q := sorry
theorem u_X10_find {Q : Int → Th → Prop} {A : List Int} {S : List (List Int)} {t : List Int} {c e : Int} (hd : 4 ≤ d) (ho : xo Θ o = (24, CF, 0, 0)) (h : xo Θ (gt CF 9) = (3, A, c, e)) (hA : all2 (Str Θ) A S) (ht : Str Θ x t) (hQ : Q (if kIx t S < 0 then (S.length : Int) else kIx t S) Θ) : w2_X10_find ω d G o x Θ Q := sorry
end CHO
/-- what holds while the chiefs are chosen -/
def chI (ρ : List Int) (z : List (List Int) × List Int) : Prop := z.1.length = z.2.length ∧ ∀ x, x ∈ z.2 → x ∈ ρ
theorem chI.st {ρ : List Int} {s : Fo} {sb : Int → List Int} {rp : Int → Bool} {z : List (List Int) × List Int} {b : Int} (h : chI ρ z) (hb : b ∈ ρ) : chI ρ (chS s sb rp z b) ∧ (chS s sb rp z b).1.length ≤ z.1.length + 1 := sorry
section CHW
variable {ω : AO} {d G : Nat} {Θ Θ1 : Th} {o b x : Int} {CF W : List Int} {la : Int → Int} {ma : Int → Int} {s : Fo} {sb : Int → List Int} {rp : Int → Bool} {tm : Int → Int} {ex : Int → Prop}
theorem u_X10_choose {Q : Th → Prop} {ρ C0 A0 : List Int} {c4 e4 c8 e8 c9 e9 : Int} (hd : 10 ≤ d) (ho : xo Θ o = (24, CF, 0, 0)) (h4 : xo Θ (gt CF 4) = (3, ρ.map (gt W), c4, e4)) (h8 : xo Θ (gt CF 8) = (3, C0, c8, e8)) (hf8 : ¬ fz Θ (gt CF 8)) (h9 : xo Θ (gt CF 9) = (3, A0, c9, e9)) (hf9 : ¬ fz Θ (gt CF 9)) (n48 : gt CF 4 ≠ gt CF 8) (n49 : gt CF 4 ≠ gt CF 9) (n89 : gt CF 8 ≠ gt CF 9)
    (hc8 : c8 = 0 ∨ 10 ≤ c8) (hm8 : c8 ≤ 3000000) (hc9 : c9 = 0 ∨ 10 ≤ c9) (hm9 : c9 ≤ 3000000) (hma : ∀ n, 0 ≤ n → 0 ≤ ma n)
    (hV : ∀ b, b ∈ ρ → BxV Θ W la ma s b ∧ la (gt W b) ≠ gt CF 8 ∧ la (gt W b) ≠ gt CF 9) (hE : ∀ b, b ∈ ρ → s.2.1 b < 0 → 0 < len (s.2.2.2 b) ∧ 0 ≤ s.2.1 (gt (s.2.2.2 b) 0) ∧ BxV Θ W la ma s (gt (s.2.2.2 b) 0) ∧ la (gt W (gt (s.2.2.2 b) 0)) ≠ gt CF 8 ∧ la (gt W (gt (s.2.2.2 b) 0)) ≠ gt CF 9)
    (hM : ∀ n, 0 ≤ s.2.1 n → MlB Θ (ma (s.2.1 n)) (s.2.1 n) (sb (s.2.1 n)) (rp (s.2.1 n)) (tm (s.2.1 n))) (hρ : len ρ ≤ 1000000) (hG : 2 * (2 * len ρ + 10) ≤ (G : Int))
    (hQ : ∀ Θ' A c8' e8' c9' e9', GrX (fun z => z = gt CF 8 ∨ z = gt CF 9) Θ Θ' → xo Θ' (gt CF 8) = (3, (ρ.foldl (chS s sb rp) ([], [])).2.map (gt W), c8', e8') → ¬ fz Θ' (gt CF 8) → xo Θ' (gt CF 9) = (3, A, c9', e9') → ¬ fz Θ' (gt CF 9) → all2 (Str Θ') A (ρ.foldl (chS s sb rp) ([], [])).1 →
      (c8' = 0 ∨ 10 ≤ c8') → c8' ≤ max c8 (2 * len ρ + 10) → (c9' = 0 ∨ 10 ≤ c9') → c9' ≤ max c9 (2 * len ρ + 10) → chI ρ (ρ.foldl (chS s sb rp) ([], [])) → Q Θ') : w2_X10_choose ω d G o Θ Q := sorry
end CHW

/-! 85.at.lean.txt -/
/-! the boxes that live, through pruning (plain) -/
set_option maxRecDepth 100000
/-- ρ the roots, A the boxes that live: no box lies in itself, however deep -/
def foLk (s : Fo) (ρ : List Int) (A : Int → Prop) : Prop := foCl s A ∧ (ρ.Nodup ∧ ∀ x, x ∈ ρ → A x ∧ s.2.2.1 x = -1) ∧ ∃ h : Int → Nat, ∀ b, A b → ∀ c, c ∈ s.2.2.2 b → h c < h b
theorem hi_ex (h : Int → Nat) : ∀ n : Nat, ∃ M : Nat, ∀ b : Int, 0 ≤ b → b < (n : Int) → h b ≤ M := sorry
section LKP
variable {s : Fo} {ρ : List Int} {A : Int → Prop} {p : Int}
theorem foOk.lk (h : foOk s) (hn : ρ.Nodup) (hr : ∀ x, x ∈ ρ → (0 ≤ x ∧ x < s.1) ∧ s.2.2.1 x = -1) : foLk s ρ (fun b => 0 ≤ b ∧ b < s.1) := sorry
theorem prK_0 {b : Int} : prK s false b = true ↔ 0 ≤ s.2.1 b := sorry
theorem prF_mem {root : Bool} {l : List Int} {x : Int} : x ∈ prF s root l ↔ ∃ b, b ∈ l ∧ ((prK s root b = true ∧ x = b) ∨ (prK s root b ≠ true ∧ x ∈ s.2.2.2 b)) := sorry
/-- pieces of a row that have nothing in common -/
theorem fm_nodup {f : Int → List Int} : ∀ {l : List Int}, l.Nodup → (∀ b, b ∈ l → (f b).Nodup) → (∀ b c x, b ∈ l → c ∈ l → x ∈ f b → x ∈ f c → b = c) → (l.flatMap f).Nodup := sorry
theorem foLk.nod {root : Bool} {l : List Int} {q : Int} (h : foLk s ρ A) (hl : l.Nodup) (hA : ∀ b, b ∈ l → A b ∧ s.2.2.1 b = q) (hq : ∀ b, b ∈ l → b ≠ q) : (prF s root l).Nodup := sorry
/-- a box whose list is pruned -/
theorem foLk.pr (h : foLk s ρ A) (hp : A p) : (prF s false (s.2.2.2 p)).Nodup ∧ foLk (foPr s p (prF s false (s.2.2.2 p))) ρ (fun x => A x ∧ ¬ (x ∈ s.2.2.2 p ∧ s.2.1 x < 0)) := sorry
/-- the roots -/
theorem foLk.prR (h : foLk s ρ A) : (prF s true ρ).Nodup ∧ foLk (foPr s (-1) (prF s true ρ)) (prF s true ρ) (fun x => A x ∧ ¬ (x ∈ ρ ∧ prK s true x ≠ true)) := sorry
end LKP

/-! 85.au.lean.txt -/
/-! the boxes that live, through grouping (plain) -/
set_option maxRecDepth 100000
def gpC (s : Fo) (c : Int) (l : List Int) : Fo := l.foldl (fun f x => foPut f c x) s
theorem gpC_eq {c : Int} : ∀ (l : List Int) (s : Fo), gpC s c l = (s.1, s.2.1, fun x => if x ∈ l then c else s.2.2.1 x, fup s.2.2.2 c (s.2.2.2 c ++ l)) := sorry
/-- an entry gives way to a new one -/
theorem set_idx {l : List Int} {c n : Int} (hn : l.Nodup) (hc : c ∈ l) (hf : n ∉ l) : (l.set (idx l c 0).toNat n).Nodup ∧ ∀ x, x ∈ l.set (idx l c 0).toNat n ↔ x = n ∨ (x ∈ l ∧ x ≠ c) := sorry
section GRL
variable {s : Fo} {ρ : List Int} {A : Int → Prop} {b c : Int}
/-- a root comes into another one -/
theorem foLk.gr2 (h : foLk s ρ A) (hb : b ∈ ρ) (hc : c ∈ ρ) (hbc : b ≠ c) : foLk (foPut s c b) (del ρ (idx ρ b 0)) A := sorry
/-- what is in a root comes into another one -/
theorem foLk.gr1 (h : foLk s ρ A) (hb : b ∈ ρ) (hc : c ∈ ρ) (hbc : b ≠ c) : foLk (gpC s c (s.2.2.2 b)) (del ρ (idx ρ b 0)) (fun x => A x ∧ x ≠ b) := sorry
/-- two roots come into a new one -/
theorem foLk.gr3 (h : foLk s ρ A) (hk : foDm s) (hb : b ∈ ρ) (hc : c ∈ ρ) (hbc : b ≠ c) : foLk (foPut (foPut (foNew s) s.1 c) s.1 b) ((del ρ (idx ρ b 0)).set (idx (del ρ (idx ρ b 0)) c 0).toNat s.1) (fun x => A x ∨ x = s.1) := sorry
end GRL

/-! 85.av.lean.txt -/
/-! grouping (plain) -/
set_option maxRecDepth 100000
/-- messages stay, and the first that is in a box -/
def fkp (f f' : Fo) : Prop := f'.2.1 = f.2.1 ∧ ∀ x, 0 < len (f.2.2.2 x) → 0 < len (f'.2.2.2 x) ∧ gt (f'.2.2.2 x) 0 = gt (f.2.2.2 x) 0
/-- an empty box has one in it that holds a message, ahead of all -/
def fst0 (f : Fo) (x : Int) : Prop := f.2.1 x < 0 → 0 < len (f.2.2.2 x) ∧ 0 ≤ f.2.1 (gt (f.2.2.2 x) 0)
section FKP
variable {f f' f2 : Fo} {x p c n : Int} {sb : Int → List Int} {l : List Int}
theorem fkp.rf : fkp f f := ⟨rfl, fun _ h => ⟨h, rfl⟩⟩
theorem fkp.tr (h : fkp f f') (h2 : fkp f' f2) : fkp f f2 := sorry
theorem fkp.put : fkp f (foPut f p c) := sorry
theorem fkp.new : fkp f (foNew f) := ⟨rfl, fun _ h => ⟨h, rfl⟩⟩
theorem fkp.puts : ∀ (l : List Int) (f : Fo), fkp f (gpC f c l) := sorry
theorem fkp.first (h : fkp f f') (hx : fst0 f x) : fst0 f' x := sorry
theorem fkp.sbj (h : fkp f f') (hx : fst0 f x) : sbX f' sb x = sbX f sb x := sorry
end FKP
/-- how long lists may get -/
def capOk (s : Cw) : Prop := ∀ j, 0 ≤ j → j < s.1.2.1 → (s.2.1 j = 0 ∨ 10 ≤ s.2.1 j) ∧ len (s.1.2.2.2.2 j) ≤ s.2.1 j ∧ s.2.1 j ≤ 200000
def cwPuts (s : Cw) (c : Int) (l : List Int) : Cw := l.foldl (fun s x => cwPut s c x) s
section CPO
variable {s : Cw} {p c : Int} {ko : Int → Int} {l : List Int}
theorem capOk.put (h : capOk s) (hp : 0 ≤ p ∧ p < s.1.2.1) (hl : len (s.1.2.2.2.2 p) ≤ 90000) : capOk (cwPut s p c) ∧ 0 ≤ (cwPut s p c).2.2.2.2 - s.2.2.2.2 ∧ adC (s.2.1 p) (len (s.1.2.2.2.2 p)) ≤ 60000000 := sorry
theorem capOk.al (h : capOk s) (hk : foDm s.1.2) (hw : cwWk s) (hko : ∀ i, (ko i = 0 ∨ 10 ≤ ko i) ∧ ko i ≤ 200000) : capOk (cwAl ko s).2 := sorry
theorem cwPuts_1 : ∀ (l : List Int) (s : Cw), (cwPuts s c l).1 = (s.1.1, gpC s.1.2 c l) ∧ (cwPuts s c l).2.2.1 = s.2.2.1 ∧ (cwPuts s c l).2.2.2.1 = s.2.2.2.1 := sorry
theorem foDm.puts : ∀ (l : List Int) {f : Fo}, foDm f → (0 ≤ c ∧ c < f.1) → (∀ x, x ∈ l → 0 ≤ x ∧ x < f.1) → foDm (gpC f c l) := sorry
theorem capOk.puts : ∀ (l : List Int) {s : Cw}, capOk s → (0 ≤ c ∧ c < s.1.2.1) → len (s.1.2.2.2.2 c) + len l ≤ 90000 → capOk (cwPuts s c l) ∧ 0 ≤ (cwPuts s c l).2.2.2.2 - s.2.2.2.2 := sorry
end CPO
/-- what becomes of a root and its chief -/
def grDo (ko : Int → Int) (rp : Int → Bool) (z : Cw × List Int × List Int) (b c t : Int) : Cw × List Int × List Int :=
  if z.1.1.2.2.1 b < 0 then (cwPuts z.1 c (z.1.1.2.2.2.2 b), del z.2.1 (idx z.2.1 b 0), z.2.2)
  else if z.1.1.2.2.1 c < 0 ∨ (rpX z.1.1.2 rp c = false ∧ rpX z.1.1.2 rp b = true) then (cwPut z.1 c b, del z.2.1 (idx z.2.1 b 0), z.2.2)
  else (cwPut (cwPut (cwAl ko z.1).2 z.1.1.2.1 c) z.1.1.2.1 b, (del z.2.1 (idx z.2.1 b 0)).set (idx (del z.2.1 (idx z.2.1 b 0)) c 0).toNat z.1.1.2.1, z.2.2.set t.toNat z.1.1.2.1)
def grStep (ko : Int → Int) (sb : Int → List Int) (rp : Int → Bool) (S : List (List Int)) (z : Cw × List Int × List Int) (b : Int) : Cw × List Int × List Int :=
  if sbX z.1.1.2 sb b = [] then z else if gt z.2.2 (kIx (sbX z.1.1.2 sb b) S) = b ∨ 0 ≤ z.1.1.2.2.2.1 b then z else grDo ko rp z b (gt z.2.2 (kIx (sbX z.1.1.2 sb b) S)) (kIx (sbX z.1.1.2 sb b) S)
/-- what holds of the store, the roots, the chiefs -/
def grI (S : List (List Int)) (sb : Int → List Int) (z : Cw × List Int × List Int) (rest : List Int) (A : Int → Prop) : Prop :=
  foLk z.1.1.2 z.2.1 A ∧ foDm z.1.1.2 ∧ cwWk z.1 ∧ capOk z.1 ∧ (S.Nodup ∧ S.length = z.2.2.length) ∧ (∀ x, x ∈ z.2.2 → x ∈ z.2.1 ∧ fst0 z.1.1.2 x) ∧ (∀ k, 0 ≤ k → k < len z.2.2 → sbX z.1.1.2 sb (gt z.2.2 k) = kAt S k) ∧
  rest.Nodup ∧ ∀ b, b ∈ rest → (0 ≤ b ∧ b < z.1.1.2.1) ∧ fst0 z.1.1.2 b ∧ (sbX z.1.1.2 sb b = [] ∨ sbX z.1.1.2 sb b ∈ S) ∧ (z.1.1.2.2.2.1 b = -1 → b ∈ z.2.1)
section GRI
variable {S : List (List Int)} {sb : Int → List Int} {z : Cw × List Int × List Int} {rest : List Int} {A : Int → Prop} {b c t : Int} {rp : Int → Bool} {ko : Int → Int}
theorem kIx_uq : ∀ {S : List (List Int)}, S.Nodup → ∀ (k : Int), 0 ≤ k → k < (S.length : Int) → kIx (kAt S k) S = k := sorry
theorem lk_len {f : Fo} (h : foCl f A) (hb : A b) : len (f.2.2.2 b) ≤ f.1 := sorry
/-- a root that is no chief: where its chief is, and that both are roots -/
theorem grI.fact (h : grI S sb z (b :: rest) A) (hs : sbX z.1.1.2 sb b ≠ []) : (0 ≤ kIx (sbX z.1.1.2 sb b) S ∧ kIx (sbX z.1.1.2 sb b) S < len z.2.2) ∧ (gt z.2.2 (kIx (sbX z.1.1.2 sb b) S) ∈ z.2.1 ∧ gt z.2.2 (kIx (sbX z.1.1.2 sb b) S) ∈ z.2.2 ∧ fst0 z.1.1.2 (gt z.2.2 (kIx (sbX z.1.1.2 sb b) S))) ∧ sbX z.1.1.2 sb (gt z.2.2 (kIx (sbX z.1.1.2 sb b) S)) = sbX z.1.1.2 sb b := sorry
theorem grI.skip (h : grI S sb z (b :: rest) A) : grI S sb z rest A := sorry
/-- a root that goes is no chief -/
theorem grI.nob (h : grI S sb z (b :: rest) A) (hs : sbX z.1.1.2 sb b ≠ []) (hbc : gt z.2.2 (kIx (sbX z.1.1.2 sb b) S) ≠ b) : b ∉ z.2.2 := sorry
theorem grI.step (h : grI S sb z (b :: rest) A) (hn : z.1.1.2.1 < 40000) (hko : ∀ i, (ko i = 0 ∨ 10 ≤ ko i) ∧ ko i ≤ 200000) : (∃ A', grI S sb (grStep ko sb rp S z b) rest A') ∧ 0 ≤ (grStep ko sb rp S z b).1.2.2.2.2 - z.1.2.2.2.2 ∧ (z.1.1.2.1 ≤ (grStep ko sb rp S z b).1.1.2.1 ∧ (grStep ko sb rp S z b).1.1.2.1 ≤ z.1.1.2.1 + 1) := sorry
end GRI

/-! 85.aw.lean.txt -/
/-! grouping: the heap -/
set_option maxRecDepth 100000
/-- the lists of conversations -/
def cvR (CF : List Int) (r4 r5 r6 r7 r8 r9 : List Int) (c4 c5 c6 c7 c8 c9 : Int) (R2 : List It) : List It := lsI (gt CF 4) r4 c4 :: lsI (gt CF 5) r5 c5 :: lsI (gt CF 6) r6 c6 :: lsI (gt CF 7) r7 c7 :: lsI (gt CF 8) r8 c8 :: lsI (gt CF 9) r9 c9 :: R2
/-- a mail among what is owned -/
def MlsR (R2 : List It) (Θ : Th) (ma : Int → Int) (sb : Int → List Int) (rp : Int → Bool) (tm : Int → Int) (n : Int) : Prop := ∃ (j : Nat) (MF CF2 : List Int), R2[j]? = some (obj (ma n) (29, MF, 0, 0)) ∧ Fx Θ (gt MF 3) (32, CF2, 0, 0) ∧ Str Θ (gt CF2 9) (sb n) ∧ gt CF2 10 = (if rp n = true then 1 else 0) ∧ gt CF2 11 = tm n ∧ gt MF 0 = n ∧ 0 ≤ ma n
section GRH
variable {ω : AO} {d G : Nat} {Θ Θ1 : Th} {o : Int} {CF CF0 : List Int} {R R2 L : List It} {s : Cw} {X : Hx} {ma : Int → Int} {kp : List Int → Int} {ko : Int → Int} {sb : Int → List Int} {rp : Int → Bool} {tm : Int → Int} {Kg : Fo → Prop} {i : Nat} {a c c' e' n b : Int} {rs rs' : List Int}
theorem CwG.ls (I : CwG Kg Θ o CF R s X ma kp ko) (hi : R[i]? = some (lsI a rs c)) (t : Θ1 = uq Θ a (3, rs', c', e')) : OwT Θ (cwL o CF R s X) Θ1 (cwL o CF (R.set i (lsI a rs' c')) s X) ∧ CwG Kg Θ1 o CF (R.set i (lsI a rs' c')) s X ma kp ko := sorry
theorem CwG.rd (I : CwG Kg Θ o CF R s X ma kp ko) (hi : R[i]? = some (lsI a rs c)) : ∃ e, xo Θ a = (3, rs, c, e) ∧ ¬ fz Θ a := I.1.at (cwL_R hi)
theorem CwG.ob (I : CwG Kg Θ o CF R s X ma kp ko) : xo Θ o = (24, CF, 0, 0) ∧ ¬ fz Θ o := sorry
/-- a box as the heap shows it -/
theorem CwG.v (I : CwG foDm Θ o CF R s X ma kp ko) (hb : 0 ≤ b ∧ b < s.1.2.1) : BxV Θ X.1 X.2.2.2.1 ma s.1.2 b ∧ ¬ fz Θ (gt X.1 b) := sorry
theorem MlsR.ml (h : MlsR R2 Θ ma sb rp tm n) (g : Le Θ Θ1) (hO : OwS Θ1 L) (hL : ∀ x, x ∈ R2 → x ∈ L) : MlB Θ1 (ma n) n (sb n) (rp n) (tm n) := sorry
theorem cvR_mem {r4 r5 r6 r7 r8 r9 : List Int} {c4 c5 c6 c7 c8 c9 : Int} {x : It} (h : x ∈ R2) : x ∈ cwL o CF (cvR CF0 r4 r5 r6 r7 r8 r9 c4 c5 c6 c7 c8 c9 R2) s X := sorry
theorem map_pre {W W' : List Int} {l : List Int} (h : ∀ j, 0 ≤ j → j < len W → gt W' j = gt W j) (hl : ∀ x, x ∈ l → 0 ≤ x ∧ x < len W) : l.map (gt W') = l.map (gt W) := sorry
end GRH
section GRF
variable {S : List (List Int)} {sb : Int → List Int} {rp : Int → Bool} {ko : Int → Int}
theorem grI.fold (hko : ∀ i, (ko i = 0 ∨ 10 ≤ ko i) ∧ ko i ≤ 200000) : ∀ (rest : List Int) (z : Cw × List Int × List Int) (A : Int → Prop), grI S sb z rest A → z.1.1.2.1 + (rest.length : Int) < 40000 → (∃ A', grI S sb (rest.foldl (grStep ko sb rp S) z) [] A') ∧ 0 ≤ (rest.foldl (grStep ko sb rp S) z).1.2.2.2.2 - z.1.2.2.2.2 := sorry
end GRF
/-- everything that is there while roots are grouped -/
def GrL (o : Int) (CF CF0 : List Int) (E r6 r7 Aσ : List Int) (c4 c5 c6 c7 c8 c9 : Int) (R2 : List It) (z : Cw × List Int × List Int) (X : Hx) : List It := cwL o CF (cvR CF0 (z.2.1.map (gt X.1)) (E.map (gt X.1)) r6 r7 (z.2.2.map (gt X.1)) Aσ c4 c5 c6 c7 c8 c9 R2) z.1 X
def GrH (Θ0 : Th) (L0 : List It) (W0 : List Int) (f0 : Fo) (Θ : Th) (o : Int) (CF CF0 : List Int) (E r6 r7 Aσ : List Int) (c4 c5 c6 c7 c8 c9 : Int) (R2 : List It) (z : Cw × List Int × List Int) (X : Hx) (ma : Int → Int) (kp : List Int → Int) (ko : Int → Int) : Prop :=
  OwT Θ0 L0 Θ (GrL o CF CF0 E r6 r7 Aσ c4 c5 c6 c7 c8 c9 R2 z X) ∧ CwG foDm Θ o CF (cvR CF0 (z.2.1.map (gt X.1)) (E.map (gt X.1)) r6 r7 (z.2.2.map (gt X.1)) Aσ c4 c5 c6 c7 c8 c9 R2) z.1 X ma kp ko ∧ (∀ j, 0 ≤ j → j ≠ 3 → gt CF j = gt CF0 j) ∧ (len W0 ≤ len X.1 ∧ ∀ j, 0 ≤ j → j < len W0 → gt X.1 j = gt W0 j) ∧ z.1.1.2.2.1 = f0.2.1
section GHS
variable {Θ0 Θ1 Θ2 : Th} {L0 : List It} {W0 : List Int} {f0 : Fo} {o : Int} {CF CF0 CF2 E r6 r7 Aσ : List Int} {c4 c5 c6 c7 c8 c9 : Int} {R2 : List It} {z : Cw × List Int × List Int} {X X2 : Hx} {ma : Int → Int} {kp : List Int → Int} {ko : Int → Int} {s2 : Cw} {l : List Int} {e : Int}
theorem GrH.st (hO0 : OwS Θ0 L0) (H : GrH Θ0 L0 W0 f0 Θ1 o CF CF0 E r6 r7 Aσ c4 c5 c6 c7 c8 c9 R2 z X ma kp ko) (T : OwT Θ1 (GrL o CF CF0 E r6 r7 Aσ c4 c5 c6 c7 c8 c9 R2 z X) Θ2 (cwL o CF2 (cvR CF0 (z.2.1.map (gt X.1)) (E.map (gt X.1)) r6 r7 (z.2.2.map (gt X.1)) Aσ c4 c5 c6 c7 c8 c9 R2) s2 X2))
    (I2 : CwG foDm Θ2 o CF2 (cvR CF0 (z.2.1.map (gt X.1)) (E.map (gt X.1)) r6 r7 (z.2.2.map (gt X.1)) Aσ c4 c5 c6 c7 c8 c9 R2) s2 X2 ma kp ko) (hp : len X.1 ≤ len X2.1 ∧ ∀ j, 0 ≤ j → j < len X.1 → gt X2.1 j = gt X.1 j) (hCF : ∀ j, 0 ≤ j → j ≠ 3 → gt CF2 j = gt CF0 j) (hm : s2.1.2.2.1 = f0.2.1)
    (h1 : ∀ x, x ∈ z.2.1 → 0 ≤ x ∧ x < len X.1) (h2 : ∀ x, x ∈ E → 0 ≤ x ∧ x < len X.1) (h3 : ∀ x, x ∈ z.2.2 → 0 ≤ x ∧ x < len X.1) : GrH Θ0 L0 W0 f0 Θ2 o CF2 CF0 E r6 r7 Aσ c4 c5 c6 c7 c8 c9 R2 (s2, z.2) X2 ma kp ko := sorry
theorem GrH.l4 (hO0 : OwS Θ0 L0) (H : GrH Θ0 L0 W0 f0 Θ1 o CF CF0 E r6 r7 Aσ c4 c5 c6 c7 c8 c9 R2 z X ma kp ko) (t : Θ2 = uq Θ1 (gt CF0 4) (3, l.map (gt X.1), c4, e)) : GrH Θ0 L0 W0 f0 Θ2 o CF CF0 E r6 r7 Aσ c4 c5 c6 c7 c8 c9 R2 (z.1, l, z.2.2) X ma kp ko := sorry
theorem GrH.l8 (hO0 : OwS Θ0 L0) (H : GrH Θ0 L0 W0 f0 Θ1 o CF CF0 E r6 r7 Aσ c4 c5 c6 c7 c8 c9 R2 z X ma kp ko) (t : Θ2 = uq Θ1 (gt CF0 8) (3, l.map (gt X.1), c8, e)) : GrH Θ0 L0 W0 f0 Θ2 o CF CF0 E r6 r7 Aσ c4 c5 c6 c7 c8 c9 R2 (z.1, z.2.1, l) X ma kp ko := sorry
end GHS
theorem cwPuts_snoc {s : Cw} {c x : Int} {l : List Int} : cwPuts s c (l ++ [x]) = cwPut (cwPuts s c l) c x := by
  unfold cwPuts
  rw [List.foldl_append]
  rfl
theorem cwPuts_app {s : Cw} {c : Int} {l m : List Int} : cwPuts s c (l ++ m) = cwPuts (cwPuts s c l) c m := by
  unfold cwPuts
  rw [List.foldl_append]
/-! 85.ax.lean.txt -/
/-! grouping: the walk -/
set_option maxRecDepth 100000
set_option maxHeartbeats 4000000
section GRW
variable {ω : AO} {d G : Nat} {o : Int} {CF0 : List Int} {R2 : List It} {ma : Int → Int} {kp : List Int → Int} {ko : Int → Int} {sb : Int → List Int} {rp : Int → Bool} {tm : Int → Int} {S : List (List Int)} {E r6 r7 Aσ : List Int} {c4 c5 c6 c7 c8 c9 : Int} {Θ0 : Th} {L0 : List It} {W0 : List Int} {f0 : Fo} {Z : Cw × List Int × List Int}
theorem u_gr51 {Q : Th → Prop} (hd : 14 ≤ d) (hma : ∀ n, 0 ≤ n → 0 ≤ ma n) (hko : ∀ i, (ko i = 0 ∨ 10 ≤ ko i) ∧ ko i ≤ 200000) (hO0 : OwS Θ0 L0) (hA : all2 (Str Θ0) Aσ S) (hMs : ∀ x, 0 ≤ f0.2.1 x → MlsR R2 Θ0 ma sb rp tm (f0.2.1 x)) (hE : ∀ x, x ∈ E → 0 ≤ x ∧ x < len W0) (hEl : len E ≤ 20000) (hSl : S.length ≤ 1000000) (g0 : Nat) (k0 : Int) (hG : (g0 : Int) + (Z.1.2.2.2.2 - k0) ≤ (G : Int))
    (hQ : ∀ Θ' X' CF', GrH Θ0 L0 W0 f0 Θ' o CF' CF0 E r6 r7 Aσ c4 c5 c6 c7 c8 c9 R2 Z X' ma kp ko → (∃ A', grI S sb Z [] A') → Q Θ') :
    ∀ (N i : Nat) (z : Cw × List Int × List Int) (X : Hx) (CF : List Int) (A : Int → Prop) (Θ1 : Th) (g : Nat), E.length - i = N → i ≤ E.length → GrH Θ0 L0 W0 f0 Θ1 o CF CF0 E r6 r7 Aσ c4 c5 c6 c7 c8 c9 R2 z X ma kp ko → grI S sb z (E.drop i) A → (E.drop i).foldl (grStep ko sb rp S) z = Z →
      z.1.1.2.1 + ((E.length - i : Nat) : Int) < 30000 → z.1.2.2.1.2.2.1 + ((E.length - i : Nat) : Int) < 30000 → (g : Int) ≤ (g0 : Int) + (z.1.2.2.2.2 - k0) → W2_X10_group_51 ω d G o (i : Int) g Θ1 Q := sorry
end GRW

/-! 85.ay.lean.txt -/
/-! group whole -/
set_option maxRecDepth 100000
set_option maxHeartbeats 2000000
section OWW
variable {Θ Θ1 : Th} {ex : Int → Prop} {L : List It} {x0 x1 Y Y1 : It} {m m1 : Nat}
/-- two items are altered -/
theorem ow_two (hO : OwS Θ L) (g : GrX ex Θ Θ1) (hm : L[m]? = some x0) (hm1 : L[m1]? = some x1) (hne : m ≠ m1) (hY1 : Y.1 = x0.1) (hY : Y.2 Θ1 ∧ stb Y) (hZ1 : Y1.1 = x1.1) (hZ : Y1.2 Θ1 ∧ stb Y1) (hex : ∀ z, ex z → z ∈ x0.1 ∨ z ∈ x1.1) : OwT Θ L Θ1 ((L.set m Y).set m1 Y1) := sorry
end OWW
/-- what holds of the chiefs that were chosen -/
def chJ (f : Fo) (sb : Int → List Int) (done : List Int) (z : List (List Int) × List Int) : Prop := z.1.Nodup ∧ z.1.length = z.2.length ∧ (∀ x, x ∈ z.2 → x ∈ done) ∧ (∀ k, 0 ≤ k → k < len z.2 → sbX f sb (gt z.2 k) = kAt z.1 k) ∧ ∀ b, b ∈ done → sbX f sb b = [] ∨ sbX f sb b ∈ z.1
section CHJ
variable {f : Fo} {sb : Int → List Int} {rp : Int → Bool}
theorem chJ.st {done : List Int} {z : List (List Int) × List Int} {b : Int} (h : chJ f sb done z) : chJ f sb (done ++ [b]) (chS f sb rp z b) := sorry
theorem chJ.fold : ∀ (l done : List Int) (z : List (List Int) × List Int), chJ f sb done z → chJ f sb (done ++ l) (l.foldl (chS f sb rp) z) := sorry
theorem chJ.all {ρ : List Int} : chJ f sb ρ (ρ.foldl (chS f sb rp) ([], [])) := sorry
end CHJ
section GRP
variable {ω : AO} {d G : Nat} {Θ : Th} {o : Int} {CF : List Int} {R2 : List It} {s : Cw} {X : Hx} {ma : Int → Int} {kp : List Int → Int} {ko : Int → Int} {sb : Int → List Int} {rp : Int → Bool} {tm : Int → Int} {r5 r6 r7 r8 r9 ρ : List Int} {c4 c5 c6 c7 c8 c9 : Int} {A : Int → Prop}
theorem u_cw_choose {Q : Th → Prop} (hd : 10 ≤ d) (I : CwG foDm Θ o CF (cvR CF (ρ.map (gt X.1)) r5 r6 r7 r8 r9 c4 c5 c6 c7 c8 c9 R2) s X ma kp ko) (hma : ∀ n, 0 ≤ n → 0 ≤ ma n) (hMs : ∀ x, 0 ≤ s.1.2.2.1 x → MlsR R2 Θ ma sb rp tm (s.1.2.2.1 x)) (hρ : ∀ x, x ∈ ρ → 0 ≤ x ∧ x < s.1.2.1) (hF : ∀ b, b ∈ ρ → fst0 s.1.2 b) (hl : len ρ ≤ 1000000)
    (hc8 : c8 = 0 ∨ 10 ≤ c8) (hm8 : c8 ≤ 3000000) (hc9 : c9 = 0 ∨ 10 ≤ c9) (hm9 : c9 ≤ 3000000) (hG : 2 * (2 * len ρ + 10) ≤ (G : Int))
    (hQ : ∀ Θ' Aσ c8' c9', OwT Θ (cwL o CF (cvR CF (ρ.map (gt X.1)) r5 r6 r7 r8 r9 c4 c5 c6 c7 c8 c9 R2) s X) Θ' (cwL o CF (cvR CF (ρ.map (gt X.1)) r5 r6 r7 ((ρ.foldl (chS s.1.2 sb rp) ([], [])).2.map (gt X.1)) Aσ c4 c5 c6 c7 c8' c9' R2) s X) →
      CwG foDm Θ' o CF (cvR CF (ρ.map (gt X.1)) r5 r6 r7 ((ρ.foldl (chS s.1.2 sb rp) ([], [])).2.map (gt X.1)) Aσ c4 c5 c6 c7 c8' c9' R2) s X ma kp ko → all2 (Str Θ') Aσ (ρ.foldl (chS s.1.2 sb rp) ([], [])).1 → (c8' = 0 ∨ 10 ≤ c8') → c8' ≤ max c8 (2 * len ρ + 10) → (c9' = 0 ∨ 10 ≤ c9') → c9' ≤ max c9 (2 * len ρ + 10) → Q Θ') : w2_X10_choose ω d G o Θ Q := sorry
end GRP

/-! 85.az.lean.txt -/
/-! group: the whole of it -/
set_option maxRecDepth 100000
set_option maxHeartbeats 2000000
/-- subjects and chiefs at first; all after grouping -/
def grZ (ko : Int → Int) (sb : Int → List Int) (rp : Int → Bool) (s : Cw) (ρ : List Int) : Cw × List Int × List Int := ρ.foldl (grStep ko sb rp (ρ.foldl (chS s.1.2 sb rp) ([], [])).1) (s, ρ, (ρ.foldl (chS s.1.2 sb rp) ([], [])).2)
section GRQ
variable {ω : AO} {d G : Nat} {Θ : Th} {o : Int} {CF : List Int} {R R2 : List It} {s : Cw} {X : Hx} {ma : Int → Int} {kp : List Int → Int} {ko : Int → Int} {sb : Int → List Int} {rp : Int → Bool} {tm : Int → Int} {r5 r6 r7 r8 r9 ρ : List Int} {c4 c5 c6 c7 c8 c9 : Int} {A : Int → Prop} {Kg : Fo → Prop}
theorem CwG.wk (I : CwG foDm Θ o CF R s X ma kp ko) : cwWk s := sorry
theorem grI.start (hL : foLk s.1.2 ρ A) (hk : foDm s.1.2) (hw : cwWk s) (hc : capOk s) (hF : ∀ b, b ∈ ρ → fst0 s.1.2 b) : grI (ρ.foldl (chS s.1.2 sb rp) ([], [])).1 sb (s, ρ, (ρ.foldl (chS s.1.2 sb rp) ([], [])).2) ρ A := sorry
theorem u_cw_group {Q : Th → Prop} (hd : 15 ≤ d) (I : CwG foDm Θ o CF (cvR CF (ρ.map (gt X.1)) r5 r6 r7 r8 r9 c4 c5 c6 c7 c8 c9 R2) s X ma kp ko) (hma : ∀ n, 0 ≤ n → 0 ≤ ma n) (hko : ∀ i, (ko i = 0 ∨ 10 ≤ ko i) ∧ ko i ≤ 200000) (hMs : ∀ x, 0 ≤ s.1.2.2.1 x → MlsR R2 Θ ma sb rp tm (s.1.2.2.1 x)) (hL : foLk s.1.2 ρ A) (hcap : capOk s) (hF : ∀ b, b ∈ ρ → fst0 s.1.2 b) (hn : s.1.2.1 + len ρ < 20000) (hlo : s.2.2.1.2.2.1 + len ρ < 30000)
    (hc5 : c5 = 0 ∨ 10 ≤ c5) (hm5 : c5 ≤ 3000000) (hc8 : c8 = 0 ∨ 10 ≤ c8) (hm8 : c8 ≤ 3000000) (hc9 : c9 = 0 ∨ 10 ≤ c9) (hm9 : c9 ≤ 3000000) (hG : 3 * (2 * len ρ + 10) + ((grZ ko sb rp s ρ).1.2.2.2.2 - s.2.2.2.2) ≤ (G : Int))
    (hQ : ∀ Θ' X' CF' Aσ c5' c8' c9', OwT Θ (cwL o CF (cvR CF (ρ.map (gt X.1)) r5 r6 r7 r8 r9 c4 c5 c6 c7 c8 c9 R2) s X) Θ' (cwL o CF' (cvR CF ((grZ ko sb rp s ρ).2.1.map (gt X'.1)) (ρ.map (gt X'.1)) r6 r7 ((grZ ko sb rp s ρ).2.2.map (gt X'.1)) Aσ c4 c5' c6 c7 c8' c9' R2) (grZ ko sb rp s ρ).1 X') →
      CwG foDm Θ' o CF' (cvR CF ((grZ ko sb rp s ρ).2.1.map (gt X'.1)) (ρ.map (gt X'.1)) r6 r7 ((grZ ko sb rp s ρ).2.2.map (gt X'.1)) Aσ c4 c5' c6 c7 c8' c9' R2) (grZ ko sb rp s ρ).1 X' ma kp ko → (∀ j, 0 ≤ j → j ≠ 3 → gt CF' j = gt CF j) → (len X.1 ≤ len X'.1 ∧ ∀ j, 0 ≤ j → j < len X.1 → gt X'.1 j = gt X.1 j) → (grZ ko sb rp s ρ).1.1.2.2.1 = s.1.2.2.1 → (∃ S A', grI S sb (grZ ko sb rp s ρ) [] A') →
      ((c5' = 0 ∨ 10 ≤ c5') ∧ c5' ≤ max c5 (2 * len ρ + 10)) → ((c8' = 0 ∨ 10 ≤ c8') ∧ c8' ≤ max c8 (2 * len ρ + 10)) → ((c9' = 0 ∨ 10 ≤ c9') ∧ c9' ≤ max c9 (2 * len ρ + 10)) → Q Θ') : w2_X10_group ω d G o Θ Q := sorry
end GRQ

/-! 85.ba.lean.txt -/
/-! list, by numbers -/
set_option maxRecDepth 100000
set_option maxHeartbeats 2000000
theorem liR_in {s : Fo} {A : Int → Prop} (h : foCl s A) : ∀ (n : Nat) (st : List Int), (∀ x, x ∈ st → A x) → ∀ x, x ∈ liR s.2.2.2 n st → A x := sorry
/-- all that live, each ahead of what is in it -/
def liZ (s : Fo) (ρ : List Int) : List Int := liR s.2.2.2 s.1.toNat ρ
section CLI
variable {ω : AO} {d G : Nat} {Θ : Th} {o : Int} {CF CF0 : List Int} {R2 : List It} {s : Cw} {X : Hx} {ma : Int → Int} {kp : List Int → Int} {ko : Int → Int} {r5 r6 r7 r8 r9 ρ : List Int} {c4 c5 c6 c7 c8 c9 : Int} {A : Int → Prop}
theorem u_cw_list {Q : Th → Prop} (hd : 10 ≤ d) (I : CwG foDm Θ o CF (cvR CF0 (ρ.map (gt X.1)) r5 r6 r7 r8 r9 c4 c5 c6 c7 c8 c9 R2) s X ma kp ko) (gCF : ∀ j, 0 ≤ j → j ≠ 3 → gt CF j = gt CF0 j) (hL : foLk s.1.2 ρ A) (hn : s.1.2.1 < 1000000) (hc5 : c5 = 0 ∨ 10 ≤ c5) (hm5 : c5 ≤ 3000000) (hc6 : c6 = 0 ∨ 10 ≤ c6) (hm6 : c6 ≤ 3000000) (hG : 2 * (2 * s.1.2.1 + 10) ≤ (G : Int))
    (hQ : ∀ Θ' c5' c6', OwT Θ (cwL o CF (cvR CF0 (ρ.map (gt X.1)) r5 r6 r7 r8 r9 c4 c5 c6 c7 c8 c9 R2) s X) Θ' (cwL o CF (cvR CF0 (ρ.map (gt X.1)) ((liZ s.1.2 ρ).map (gt X.1)) [] r7 r8 r9 c4 c5' c6' c7 c8 c9 R2) s X) → CwG foDm Θ' o CF (cvR CF0 (ρ.map (gt X.1)) ((liZ s.1.2 ρ).map (gt X.1)) [] r7 r8 r9 c4 c5' c6' c7 c8 c9 R2) s X ma kp ko →
      ((c5' = 0 ∨ 10 ≤ c5') ∧ c5' ≤ max c5 (2 * s.1.2.1 + 10)) → ((c6' = 0 ∨ 10 ≤ c6') ∧ c6' ≤ max c6 (2 * s.1.2.1 + 10)) → Q Θ') : w2_X10_list ω d G o (gt CF0 5) Θ Q := sorry
end CLI

/-! 85.bb.lean.txt -/
/-! pruning from within (plain) -/
set_option maxRecDepth 100000
section LIO
variable {s : Fo} {A : Int → Prop}
theorem liV.kid (hk : foCl s A) {row st : List Int} {b : Int} (h : liV s A row (b :: st)) : b ∉ row ∧ ∀ c, c ∈ s.2.2.2 b → c ∉ row := sorry
/-- in the row each comes ahead of what is in it -/
theorem liR_ord (hk : foCl s A) : ∀ (n : Nat) (row st : List Int), liV s A row st → (row ++ liR s.2.2.2 n st).Nodup ∧ ∀ R1 p R2, liR s.2.2.2 n st = R1 ++ p :: R2 → ∀ c, c ∈ s.2.2.2 p → c ∉ row ++ R1 := sorry
/-- all that is on the stack comes into the row -/
theorem liS_mem {ins : Int → List Int} : ∀ (n : Nat) (st : List Int), liS ins n st = [] → ∀ x, x ∈ st → x ∈ liR ins n st := sorry
theorem liS_kid {ins : Int → List Int} : ∀ (n : Nat) (st : List Int), liS ins n st = [] → ∀ p, p ∈ liR ins n st → ∀ c, c ∈ ins p → c ∈ liR ins n st := sorry
end LIO
/-- a box is pruned -/
def prS (s : Cw) (p : Int) : Cw := cwPr s p (prF s.1.2 false (s.1.2.2.2.2 p))
/-- what holds while boxes are pruned from within: rem is still to come, done is done -/
def prI (f0 : Fo) (s : Cw) (ρ rem done : List Int) : Prop := (∃ A, foLk s.1.2 ρ A ∧ ∀ p, p ∈ rem → A p) ∧ foDm s.1.2 ∧ capOk s ∧ (s.1.2.1 = f0.1 ∧ s.1.2.2.1 = f0.2.1) ∧ (∀ p, p ∈ rem → s.1.2.2.2.2 p = f0.2.2.2 p) ∧ ∀ q, q ∈ done → ∀ c, c ∈ s.1.2.2.2.2 q → 0 ≤ s.1.2.2.1 c
section PRI
variable {f0 : Fo} {s : Cw} {ρ rem done : List Int} {p : Int} {A : Int → Prop}
theorem nod_in {n : Int} {l : List Int} (h : l.Nodup) (hl : ∀ x, x ∈ l → 0 ≤ x ∧ x < n) (h0 : 0 ≤ n) : len l ≤ n := sorry
theorem capOk.pr {P : List Int} (h : capOk s) (hl : len P ≤ 90000) (hp : p = -1 ∨ 0 ≤ p ∧ p < s.1.2.1) (hc : p = -1 → s.2.1 p = 0 ∨ 10 ≤ s.2.1 p) : capOk (cwPr s p P) ∧ 0 ≤ (cwPr s p P).2.2.2.2 - s.2.2.2.2 ∧ ((cwPr s p P).2.1 p = 0 ∨ 10 ≤ (cwPr s p P).2.1 p) ∧ len P ≤ (cwPr s p P).2.1 p ∧ (cwPr s p P).2.1 p ≤ max (s.2.1 p) (2 * len P + 10) := sorry
theorem prI.step (h : prI f0 s ρ (rem ++ [p]) done) (hn : s.1.2.1 ≤ 90000) (hrow : (rem ++ p :: done).Nodup) (hkid : ∀ c, c ∈ f0.2.2.2 p → c ∈ done) : prI f0 (prS s p) ρ rem (p :: done) ∧ 0 ≤ (prS s p).2.2.2.2 - s.2.2.2.2 ∧ (prF s.1.2 false (s.1.2.2.2.2 p)).Nodup ∧ len (prF s.1.2 false (s.1.2.2.2.2 p)) ≤ s.1.2.1 ∧ (0 ≤ p ∧ p < s.1.2.1) := sorry
/-- the row as the boxes lie before they are pruned -/
theorem prI.row (hL : foLk f0 ρ A) : (liZ f0 ρ).Nodup ∧ (∀ x, x ∈ ρ → x ∈ liZ f0 ρ) ∧ (∀ x, x ∈ liZ f0 ρ → A x) ∧ ∀ R1 p R2, liZ f0 ρ = R1 ++ p :: R2 → ∀ c, c ∈ f0.2.2.2 p → c ∈ R2 := sorry
end PRI

/-! 85.bc.lean.txt -/
/-! make: the roots are pruned, grouped, listed -/
set_option maxRecDepth 100000
set_option maxHeartbeats 2000000
section MKE
variable {ω : AO} {d G : Nat} {Θ : Th} {o : Int} {CF CF0 : List Int} {R2 : List It} {s : Cw} {X : Hx} {ma : Int → Int} {kp : List Int → Int} {ko : Int → Int} {sb : Int → List Int} {rp : Int → Bool} {tm : Int → Int} {r5 r6 r7 r8 r9 ρ ν P : List Int} {c5 c6 c7 c8 c9 : Int} {f0 : Fo}
theorem cap_le (hc : capOk s) (hk : foDm s.1.2) : ∀ b, len (s.1.2.2.2.2 b) ≤ 1000000 := sorry
/-- after pruning from within: the roots -/
theorem prI.roots (h : prI f0 s ρ [] ν) (hρ : ∀ x, x ∈ ρ → x ∈ ν) (hn : s.1.2.1 ≤ 90000) (hc4 : s.2.1 (-1) = 0 ∨ 10 ≤ s.2.1 (-1)) (hPe : prF s.1.2 true ρ = P) : P.Nodup ∧ len P ≤ s.1.2.1 ∧ (∃ A', foLk (cwPr s (-1) P).1.2 P A') ∧ capOk (cwPr s (-1) P) ∧ 0 ≤ (cwPr s (-1) P).2.2.2.2 - s.2.2.2.2 ∧ (((cwPr s (-1) P).2.1 (-1) = 0 ∨ 10 ≤ (cwPr s (-1) P).2.1 (-1)) ∧ (cwPr s (-1) P).2.1 (-1) ≤ max (s.2.1 (-1)) (2 * len P + 10)) ∧ (∀ b, b ∈ P → fst0 (cwPr s (-1) P).1.2 b) ∧ (∀ x, x ∈ ρ → 0 ≤ x ∧ x < s.1.2.1) ∧ ρ.Nodup := sorry
theorem u_mkE {Q : Int → Th → Prop} (hd : 16 ≤ d) (I : CwG foDm Θ o CF (cvR CF0 (ρ.map (gt X.1)) r5 r6 r7 r8 r9 (s.2.1 (-1)) c5 c6 c7 c8 c9 R2) s X ma kp ko) (gCF : ∀ j, 0 ≤ j → j ≠ 3 → gt CF j = gt CF0 j) (hma : ∀ n, 0 ≤ n → 0 ≤ ma n) (hko : ∀ i, (ko i = 0 ∨ 10 ≤ ko i) ∧ ko i ≤ 200000) (hMs : ∀ x, 0 ≤ s.1.2.2.1 x → MlsR R2 Θ ma sb rp tm (s.1.2.2.1 x)) (hI : prI f0 s ρ [] ν) (hρ : ∀ x, x ∈ ρ → x ∈ ν) (hPe : prF s.1.2 true ρ = P) (hn : s.1.2.1 < 9000) (hlo : s.2.2.1.2.2.1 < 20000)
    (hc4 : s.2.1 (-1) = 0 ∨ 10 ≤ s.2.1 (-1)) (hm4 : s.2.1 (-1) ≤ 1000000) (hc5 : c5 = 0 ∨ 10 ≤ c5) (hm5 : c5 ≤ 1000000) (hc6 : c6 = 0 ∨ 10 ≤ c6) (hm6 : c6 ≤ 1000000) (hc7 : c7 = 0 ∨ 10 ≤ c7) (hm7 : c7 ≤ 1000000) (hc8 : c8 = 0 ∨ 10 ≤ c8) (hm8 : c8 ≤ 1000000) (hc9 : c9 = 0 ∨ 10 ≤ c9) (hm9 : c9 ≤ 1000000) (g : Nat)
    (hG : (g : Int) + ((grZ ko sb rp (cwPr s (-1) P) P).1.2.2.2.2 - s.2.2.2.2) + (14 * s.1.2.1 + 50) ≤ (G : Int))
    (hQ : ∀ Θ' X' CF' Aσ c5' c6' c7' c8' c9' (g' : Nat), OwT Θ (cwL o CF (cvR CF0 (ρ.map (gt X.1)) r5 r6 r7 r8 r9 (s.2.1 (-1)) c5 c6 c7 c8 c9 R2) s X) Θ' (cwL o CF' (cvR CF0 ((grZ ko sb rp (cwPr s (-1) P) P).2.1.map (gt X'.1)) ((liZ (grZ ko sb rp (cwPr s (-1) P) P).1.1.2 (grZ ko sb rp (cwPr s (-1) P) P).2.1).map (gt X'.1)) [] (P.map (gt X.1)) ((grZ ko sb rp (cwPr s (-1) P) P).2.2.map (gt X'.1)) Aσ ((cwPr s (-1) P).2.1 (-1)) c5' c6' c7' c8' c9' R2) (grZ ko sb rp (cwPr s (-1) P) P).1 X') →
      CwG foDm Θ' o CF' (cvR CF0 ((grZ ko sb rp (cwPr s (-1) P) P).2.1.map (gt X'.1)) ((liZ (grZ ko sb rp (cwPr s (-1) P) P).1.1.2 (grZ ko sb rp (cwPr s (-1) P) P).2.1).map (gt X'.1)) [] (P.map (gt X.1)) ((grZ ko sb rp (cwPr s (-1) P) P).2.2.map (gt X'.1)) Aσ ((cwPr s (-1) P).2.1 (-1)) c5' c6' c7' c8' c9' R2) (grZ ko sb rp (cwPr s (-1) P) P).1 X' ma kp ko → (∀ j, 0 ≤ j → j ≠ 3 → gt CF' j = gt CF0 j) → (len X.1 ≤ len X'.1 ∧ ∀ j, 0 ≤ j → j < len X.1 → gt X'.1 j = gt X.1 j) → (grZ ko sb rp (cwPr s (-1) P) P).1.1.2.2.1 = s.1.2.2.1 → (∃ S A', grI S sb (grZ ko sb rp (cwPr s (-1) P) P) [] A') →
      ((c5' = 0 ∨ 10 ≤ c5') ∧ c5' ≤ max c5 40000) → ((c6' = 0 ∨ 10 ≤ c6') ∧ c6' ≤ max c6 40000) → ((c7' = 0 ∨ 10 ≤ c7') ∧ c7' ≤ max c7 40000) → ((c8' = 0 ∨ 10 ≤ c8') ∧ c8' ≤ max c8 40000) → ((c9' = 0 ∨ 10 ≤ c9') ∧ c9' ≤ max c9 40000) → (g' : Int) ≤ (g : Int) + ((grZ ko sb rp (cwPr s (-1) P) P).1.2.2.2.2 - s.2.2.2.2) + (14 * s.1.2.1 + 50) →
      W2_X10_make_249 ω d G o (len (liZ (grZ ko sb rp (cwPr s (-1) P) P).1.1.2 (grZ ko sb rp (cwPr s (-1) P) P).2.1) - 1) g' Θ' Q) : W2_X10_make_179 ω d G o (-1) g Θ Q := sorry
end MKE

/-! 85.bd.lean.txt -/
/-! make: the boxes are pruned from within -/
set_option maxRecDepth 100000
set_option maxHeartbeats 2000000
/-- all of a row pruned, the last first -/
def pr0 (s : Cw) (ν : List Int) : Cw := ν.foldr (fun p s => prS s p) s
section PRF
variable {f0 : Fo} {s : Cw} {ρ ν : List Int}
theorem take_s {l : List Int} {m : Nat} (h : m < l.length) : l.take (m + 1) = l.take m ++ [gt l (m : Int)] := sorry
theorem drop_s {l : List Int} {m : Nat} (h : m < l.length) : l.drop m = gt l (m : Int) :: l.drop (m + 1) := sorry
theorem split_s {l : List Int} {m : Nat} (h : m < l.length) : l = l.take m ++ gt l (m : Int) :: l.drop (m + 1) := sorry
theorem prI.at {m : Nat} (h : prI f0 s ρ (ν.take (m + 1)) (ν.drop (m + 1))) (hm : m < ν.length) (hn : s.1.2.1 ≤ 90000) (hν : ν.Nodup) (ho : ∀ R1 p R2, ν = R1 ++ p :: R2 → ∀ c, c ∈ f0.2.2.2 p → c ∈ R2) : prI f0 (prS s (gt ν (m : Int))) ρ (ν.take m) (ν.drop m) ∧ 0 ≤ (prS s (gt ν (m : Int))).2.2.2.2 - s.2.2.2.2 ∧ (prF s.1.2 false (s.1.2.2.2.2 (gt ν (m : Int)))).Nodup ∧ len (prF s.1.2 false (s.1.2.2.2.2 (gt ν (m : Int)))) ≤ s.1.2.1 ∧ (0 ≤ gt ν (m : Int) ∧ gt ν (m : Int) < s.1.2.1) := sorry
theorem prI.fold (hν : ν.Nodup) (ho : ∀ R1 p R2, ν = R1 ++ p :: R2 → ∀ c, c ∈ f0.2.2.2 p → c ∈ R2) : ∀ (m : Nat) (s : Cw), m ≤ ν.length → prI f0 s ρ (ν.take m) (ν.drop m) → s.1.2.1 ≤ 90000 → 0 ≤ (pr0 s (ν.take m)).2.2.2.2 - s.2.2.2.2 := sorry
end PRF
section MKP
variable {ω : AO} {d G : Nat} {Θ0 : Th} {L0 : List It} {o : Int} {CF CF0 : List Int} {R2 : List It} {ma : Int → Int} {kp : List Int → Int} {ko : Int → Int} {r6 r8 r9 ρ ν W0 : List Int} {c4 c5 c6 c8 c9 k0 K7 : Int} {f0 : Fo} {s1 : Cw} {lo : Int × Int × Int × Int} {g0 : Nat}
theorem u_mkP {Q : Int → Th → Prop} (hd : 16 ≤ d) (hO0 : OwS Θ0 L0) (gCF : ∀ j, 0 ≤ j → j ≠ 3 → gt CF j = gt CF0 j) (hma : ∀ n, 0 ≤ n → 0 ≤ ma n) (hν : ν.Nodup) (ho : ∀ R1 p R2, ν = R1 ++ p :: R2 → ∀ c, c ∈ f0.2.2.2 p → c ∈ R2) (hn : f0.1 < 9000) (hνl : ν.length ≤ 100000) (hK7 : K7 ≤ 1000000) (hK72 : 40000 ≤ K7) (hG : (g0 : Int) + (s1.2.2.2.2 - k0) ≤ (G : Int))
    (hEND : ∀ (X : Hx) (Θ1 : Th) (r7 : List Int) (c7 : Int) (g : Nat), OwT Θ0 L0 Θ1 (cwL o CF (cvR CF0 (ρ.map (gt X.1)) (ν.map (gt X.1)) r6 r7 r8 r9 c4 c5 c6 c7 c8 c9 R2) s1 X) → CwG foDm Θ1 o CF (cvR CF0 (ρ.map (gt X.1)) (ν.map (gt X.1)) r6 r7 r8 r9 c4 c5 c6 c7 c8 c9 R2) s1 X ma kp ko → prI f0 s1 ρ [] ν → X.1 = W0 → ((c7 = 0 ∨ 10 ≤ c7) ∧ c7 ≤ K7) → s1.2.1 (-1) = c4 → s1.2.2.1 = lo → (g : Int) ≤ (g0 : Int) + (s1.2.2.2.2 - k0) → W2_X10_make_179 ω d G o (-1) g Θ1 Q) :
    ∀ (m : Nat) (s : Cw) (X : Hx) (Θ1 : Th) (r7 : List Int) (c7 : Int) (g : Nat), m ≤ ν.length → OwT Θ0 L0 Θ1 (cwL o CF (cvR CF0 (ρ.map (gt X.1)) (ν.map (gt X.1)) r6 r7 r8 r9 c4 c5 c6 c7 c8 c9 R2) s X) → CwG foDm Θ1 o CF (cvR CF0 (ρ.map (gt X.1)) (ν.map (gt X.1)) r6 r7 r8 r9 c4 c5 c6 c7 c8 c9 R2) s X ma kp ko → prI f0 s ρ (ν.take m) (ν.drop m) → pr0 s (ν.take m) = s1 → X.1 = W0 → ((c7 = 0 ∨ 10 ≤ c7) ∧ c7 ≤ K7) → s.2.1 (-1) = c4 → s.2.2.1 = lo → (g : Int) ≤ (g0 : Int) + (s.2.2.2.2 - k0) → W2_X10_make_179 ω d G o ((m : Int) - 1) g Θ1 Q := sorry
end MKP

/-! 85.be.lean.txt -/
/-! order, by numbers -/
set_option maxRecDepth 100000
set_option maxHeartbeats 2000000
theorem insQ_map {lt lt' : Int → Int → Bool} {f : Int → Int} {b : Int} : ∀ {l : List Int}, (∀ x, x ∈ l → lt' (f b) (f x) = lt b x) → insQ lt' (f b) (l.map f) = (insQ lt b l).map f := sorry
theorem srtQ_map {lt lt' : Int → Int → Bool} {f : Int → Int} : ∀ {l acc : List Int}, (∀ x y, x ∈ l → (y ∈ l ∨ y ∈ acc) → lt' (f x) (f y) = lt x y) → srtQ lt' (acc.map f) (l.map f) = (srtQ lt acc l).map f := sorry
theorem ltB_eq {tm fi tm' fi' : Int → Int} {x y x' y' : Int} (h1 : tm x = tm' x') (h2 : fi x = fi' x') (h3 : tm y = tm' y') (h4 : fi y = fi' y') : ltB tm fi x y = ltB tm' fi' x' y' := sorry
theorem sortB_map {lt lt' : Int → Int → Bool} {f : Int → Int} {l : List Int} (h : ∀ x y, x ∈ l → y ∈ l → lt' (f x) (f y) = lt x y) : sortB lt' (l.map f) = (sortB lt l).map f := sorry
/-- a box's list in order; the store and the times after that -/
def odL (z : Fo × (Int → Int × Int)) (p : Int) : List Int := sortB (ltB (fun x => (z.2 x).1) (fun x => (z.2 x).2)) (z.1.2.2.2 p)
def orS (tm : Int → Int) (z : Fo × (Int → Int × Int)) (p : Int) : Fo × (Int → Int × Int) := ((z.1.1, z.1.2.1, z.1.2.2.1, fup z.1.2.2.2 p (odL z p)), fup z.2 p (if z.1.2.1 p < 0 then z.2 (gt (odL z p) 0) else (tm (z.1.2.1 p), z.1.2.1 p)))
/-- the boxes say so -/
def TmB (W : List Int) (β : Int → BxR) (τ : Int → Int × Int) (done : List Int) : Prop := ∀ j, j ∈ done → (β (gt W j)).2.2.2.2.1 = (τ j).1 ∧ (β (gt W j)).2.2.2.2.2.1 = (τ j).2
section ORW
variable {ω : AO} {d G : Nat} {Θ : Th} {o p : Int} {CF : List Int} {R R2 : List It} {s : Cw} {X : Hx} {ma : Int → Int} {kp : List Int → Int} {ko : Int → Int} {sb : Int → List Int} {rp : Int → Bool} {tm : Int → Int} {τ : Int → Int × Int} {done : List Int}
theorem foDm.or {f : Fo} (h : foDm f) (hp : 0 ≤ p ∧ p < f.1) : foDm (orS tm (f, τ) p).1 := sorry
theorem u_cw_order {Q : Th → Prop} (hd : 6 ≤ d) (I : CwG foDm Θ o CF R s X ma kp ko) (hma : ∀ n, 0 ≤ n → 0 ≤ ma n) (hp : 0 ≤ p ∧ p < s.1.2.1) (hl : len (s.1.2.2.2.2 p) ≤ 1000000) (hM : 0 ≤ s.1.2.2.1 p → MlB Θ (ma (s.1.2.2.1 p)) (s.1.2.2.1 p) (sb (s.1.2.2.1 p)) (rp (s.1.2.2.1 p)) (tm (s.1.2.2.1 p))) (hF : s.1.2.2.1 p < 0 → 0 < len (s.1.2.2.2.2 p)) (hT : TmB X.1 X.2.2.2.2.2.1 τ (s.1.2.2.2.2 p)) (hps : p ∉ s.1.2.2.2.2 p)
    (hQ : ∀ Θ' X', OwT Θ (cwL o CF R s X) Θ' (cwL o CF R ((s.1.1, (orS tm (s.1.2, τ) p).1), s.2) X') → CwG foDm Θ' o CF R ((s.1.1, (orS tm (s.1.2, τ) p).1), s.2) X' ma kp ko → X'.1 = X.1 → (∀ j, 0 ≤ j → j < s.1.2.1 → j ≠ p → X'.2.2.2.2.2.1 (gt X.1 j) = X.2.2.2.2.2.1 (gt X.1 j)) → TmB X.1 X'.2.2.2.2.2.1 (orS tm (s.1.2, τ) p).2 [p] → Q Θ') : w2_X61_order ω d G (gt X.1 p) Θ Q := sorry
end ORW

/-! 85.bf.lean.txt -/
/-! all that is in boxes holds messages (plain) -/
set_option maxRecDepth 100000
set_option maxHeartbeats 2000000
/-- what lies in a box holds a message -/
def KM (f : Fo) : Prop := ∀ b c, c ∈ f.2.2.2 b → 0 ≤ f.2.1 c
section KMP
variable {f f0 : Fo} {p c b : Int} {l : List Int} {S : List (List Int)} {sb : Int → List Int} {rp : Int → Bool} {ko : Int → Int} {z : Cw × List Int × List Int} {rest : List Int} {A : Int → Prop} {s : Cw} {ρ ν : List Int}
theorem KM.put (h : KM f) (hc : 0 ≤ f.2.1 c) : KM (foPut f p c) := sorry
theorem KM.new (h : KM f) : KM (foNew f) := h
theorem KM.puts : ∀ (l : List Int) {f : Fo}, KM f → (∀ x, x ∈ l → 0 ≤ f.2.1 x) → KM (gpC f c l) := sorry
theorem grK.step (h : grI S sb z (b :: rest) A) (hK : KM z.1.1.2) (hR : ∀ x, x ∈ z.2.1 → fst0 z.1.1.2 x) : KM (grStep ko sb rp S z b).1.1.2 ∧ ∀ x, x ∈ (grStep ko sb rp S z b).2.1 → fst0 (grStep ko sb rp S z b).1.1.2 x := sorry
theorem grK.fold (hko : ∀ i, (ko i = 0 ∨ 10 ≤ ko i) ∧ ko i ≤ 200000) : ∀ (rest : List Int) (z : Cw × List Int × List Int) (A : Int → Prop), grI S sb z rest A → z.1.1.2.1 + (rest.length : Int) < 40000 → KM z.1.1.2 → (∀ x, x ∈ z.2.1 → fst0 z.1.1.2 x) → KM (rest.foldl (grStep ko sb rp S) z).1.1.2 ∧ ∀ x, x ∈ (rest.foldl (grStep ko sb rp S) z).2.1 → fst0 (rest.foldl (grStep ko sb rp S) z).1.1.2 x := sorry
/-- every box lies in a root, however deep -/
theorem foOk.row (h : foOk f) (hρ : ∀ x, x ∈ ρ ↔ (0 ≤ x ∧ x < f.1) ∧ f.2.2.1 x = -1) (hn : ρ.Nodup) : ∀ b, 0 ≤ b → b < f.1 → b ∈ liZ f ρ := sorry
/-- after pruning from within all that lies in boxes holds messages -/
theorem prI.km (h : prI f0 s ρ [] ν) (hall : ∀ b, 0 ≤ b → b < f0.1 → b ∈ ν) : KM s.1.2 := sorry
/-- whence the boxes of the row come -/
theorem liR_src {ins : Int → List Int} : ∀ (n : Nat) (st : List Int), ∀ x, x ∈ liR ins n st → x ∈ st ∨ ∃ q, x ∈ ins q := sorry
theorem KM.row (h : KM f) (hR : ∀ x, x ∈ ρ → fst0 f x) : ∀ p, p ∈ liZ f ρ → f.2.1 p < 0 → 0 < len (f.2.2.2 p) := sorry
end KMP

/-! 85.bg.lean.txt -/
/-! make: all boxes in order, then the roots -/
set_option maxRecDepth 100000
set_option maxHeartbeats 2000000
def or0 (tm : Int → Int) (z : Fo × (Int → Int × Int)) (ν : List Int) : Fo × (Int → Int × Int) := ν.foldr (fun p z => orS tm z p) z
section MKO
variable {ω : AO} {d G : Nat} {Θ0 : Th} {L0 : List It} {o : Int} {CF CF0 : List Int} {R2 : List It} {ma : Int → Int} {kp : List Int → Int} {ko : Int → Int} {sb : Int → List Int} {rp : Int → Bool} {tm : Int → Int} {r6 r7 r8 r9 ρ ν W0 : List Int} {c4 c5 c6 c7 c8 c9 : Int} {f1 : Fo} {s1 : Cw} {z1 : Fo × (Int → Int × Int)}
theorem u_mk249 {Q : Int → Th → Prop} (hd : 8 ≤ d) (hO0 : OwS Θ0 L0) (gCF : ∀ j, 0 ≤ j → j ≠ 3 → gt CF j = gt CF0 j) (hma : ∀ n, 0 ≤ n → 0 ≤ ma n) (hMs : ∀ x, 0 ≤ s1.1.2.2.1 x → MlsR R2 Θ0 ma sb rp tm (s1.1.2.2.1 x)) (hν : ν.Nodup) (ho : ∀ R1 p R2, ν = R1 ++ p :: R2 → ∀ c, c ∈ s1.1.2.2.2.2 p → c ∈ R2) (hνR : ∀ x, x ∈ ν → 0 ≤ x ∧ x < s1.1.2.1) (hνl : ν.length ≤ 100000) (hρν : ∀ x, x ∈ ρ → x ∈ ν) (hρl : len ρ ≤ 100000) (hln : ∀ b, len (s1.1.2.2.2.2 b) ≤ 1000000) (hem : ∀ p, p ∈ ν → s1.1.2.2.1 p < 0 → 0 < len (s1.1.2.2.2.2 p))
    (hQ : ∀ Θ' X', OwT Θ0 L0 Θ' (cwL o CF (cvR CF0 ((sortB (ltB (fun x => (z1.2 x).1) (fun x => (z1.2 x).2)) ρ).map (gt X'.1)) (ν.map (gt X'.1)) r6 r7 r8 r9 c4 c5 c6 c7 c8 c9 R2) ((s1.1.1, z1.1), s1.2) X') → CwG foDm Θ' o CF (cvR CF0 ((sortB (ltB (fun x => (z1.2 x).1) (fun x => (z1.2 x).2)) ρ).map (gt X'.1)) (ν.map (gt X'.1)) r6 r7 r8 r9 c4 c5 c6 c7 c8 c9 R2) ((s1.1.1, z1.1), s1.2) X' ma kp ko → X'.1 = W0 → TmB X'.1 X'.2.2.2.2.2.1 z1.2 ν → Q (len ρ) Θ') :
    ∀ (m : Nat) (f : Fo) (τ : Int → Int × Int) (X : Hx) (Θ1 : Th) (g : Nat), m ≤ ν.length → OwT Θ0 L0 Θ1 (cwL o CF (cvR CF0 (ρ.map (gt X.1)) (ν.map (gt X.1)) r6 r7 r8 r9 c4 c5 c6 c7 c8 c9 R2) ((s1.1.1, f), s1.2) X) → CwG foDm Θ1 o CF (cvR CF0 (ρ.map (gt X.1)) (ν.map (gt X.1)) r6 r7 r8 r9 c4 c5 c6 c7 c8 c9 R2) ((s1.1.1, f), s1.2) X ma kp ko → (f.1 = s1.1.2.1 ∧ f.2.1 = s1.1.2.2.1) → (∀ p, p ∈ ν.take m → f.2.2.2 p = s1.1.2.2.2.2 p) → TmB X.1 X.2.2.2.2.2.1 τ (ν.drop m) → or0 tm (f, τ) (ν.take m) = z1 → X.1 = W0 → g ≤ G → W2_X10_make_249 ω d G o ((m : Int) - 1) g Θ1 Q := sorry
end MKO

/-! 85.bh.lean.txt -/
/-! make: all boxes are emptied first -/
set_option maxRecDepth 100000
set_option maxHeartbeats 2000000
/-- no box is used -/
def fo00 : Fo := (0, fun _ => -1, fun _ => -1, fun _ => [])
theorem fo00_ok : foOk fo00 := sorry
def cw00 (s : Cw) : Cw := (([], fo00), s.2.1, (0, s.2.2.1.2), s.2.2.2)
def kp00 (X : Hx) (k : List Int) : Int := if X.2.2.2.2.2.2.2 k < 0 then 0 else X.2.2.2.2.1 (X.2.2.2.2.2.2.2 k)
def ko00 (X : Hx) (i : Int) : Int := if 0 ≤ i ∧ i < len X.2.2.1 then X.2.2.2.2.1 (gt X.2.2.1 i) else 0
section MK2
variable {ω : AO} {d G : Nat} {Θ : Th} {o l1 : Int} {CF : List Int} {R : List It} {s : Cw} {X : Hx} {ma : Int → Int} {kp : List Int → Int} {ko : Int → Int}
theorem cwT_2 : (cwT o CF R s X)[1]? = some (lsI (gt CF 2) X.1 s.2.2.1.2.1) := rfl
theorem u_mk2 {Q : Int → Th → Prop} (hd : 6 ≤ d) (I : CwG foDm Θ o CF R s X ma kp ko) (hW : len X.1 ≤ 100000)
    (hQ : ∀ Θ' X', OwT Θ (cwL o CF R s X) Θ' (cwL o (CF.set 3 0) R (cw00 s) X') → CwI Θ' o (CF.set 3 0) R (cw00 s) X' ma (kp00 X) (ko00 X) → X'.2.2.1 = X.2.2.1 → W2_X10_make_47 ω d G o l1 0 0 Θ' Q) : w2_X10_make ω d G o l1 Θ Q := sorry
end MK2

/-! 85.bi.lean.txt -/
/-! a mail finds its place: what stays within bounds (plain) -/
set_option maxRecDepth 100000
section CWP
variable {s : Cw} {kp : List Int → Int} {ko : Int → Int} {k : List Int} {n last : Int}
/-- how many boxes, others, keys there are at most, compared with before -/
def cwGr (s s' : Cw) (a b c : Int) : Prop := (s.1.2.1 ≤ s'.1.2.1 ∧ s'.1.2.1 ≤ s.1.2.1 + a) ∧ s'.2.2.1.2.2.1 ≤ s.2.2.1.2.2.1 + b ∧ (s'.2.2.2.1.length : Int) ≤ (s.2.2.2.1.length : Int) + c
theorem cwGr.tr {s1 s2 : Cw} {a b c a' b' c' : Int} (h : cwGr s s1 a b c) (h2 : cwGr s1 s2 a' b' c') : cwGr s s2 (a + a') (b + b') (c + c') := sorry
theorem cwGr.of : cwGr s (cwOf kp s k).2 1 0 1 := sorry
theorem cwGr.al : cwGr s (cwAl ko s).2 1 1 0 := sorry
theorem cwInv.al (h : cwInv s) (hko : ∀ i, 0 ≤ ko i ∧ ko i ≤ 200000) : cwInv (cwAl ko s).2 ∧ (0 ≤ (cwAl ko s).1 ∧ (cwAl ko s).1 < (cwAl ko s).2.1.2.1) := sorry
theorem cwInv.hold (h : cwInv s) (hkp : ∀ k, 0 ≤ kp k ∧ kp k ≤ 200000) (hko : ∀ i, 0 ≤ ko i ∧ ko i ≤ 200000) : cwInv (cwHold kp ko s k n).2 ∧ cwGr s (cwHold kp ko s k n).2 2 2 1 ∧ (0 ≤ (cwHold kp ko s k n).1 ∧ (cwHold kp ko s k n).1 < (cwHold kp ko s k n).2.1.2.1) := sorry
theorem cwGr.step : cwGr s (cwStep kp s last k) 1 0 1 := sorry
theorem cwRef_ok (hkp : ∀ k, 0 ≤ kp k ∧ kp k ≤ 200000) : ∀ (r : List (List Int)) (s : Cw) (last : Int), cwInv s → (last = -1 ∨ 0 ≤ last ∧ last < s.1.2.1) → s.1.2.1 + (r.length : Int) < 39000 → cwInv (cwRef kp s last r).2 ∧ cwGr s (cwRef kp s last r).2 (r.length : Int) 0 (r.length : Int) ∧ ((cwRef kp s last r).1 = -1 ∨ 0 ≤ (cwRef kp s last r).1 ∧ (cwRef kp s last r).1 < (cwRef kp s last r).2.1.2.1) := sorry
/-- a mail's place -/
theorem cwPlace_ok {refs : List (List Int)} (h : cwInv s) (hkp : ∀ k, 0 ≤ kp k ∧ kp k ≤ 200000) (hko : ∀ i, 0 ≤ ko i ∧ ko i ≤ 200000) (hn : s.1.2.1 + (refs.length : Int) < 30000) : cwInv (cwPlace kp ko s k refs n) ∧ cwGr s (cwPlace kp ko s k refs n) ((refs.length : Int) + 2) 2 ((refs.length : Int) + 1) ∧ 0 ≤ (cwPlace kp ko s k refs n).2.2.2.2 - s.2.2.2.2 := sorry
end CWP

/-! 85.bi2.lean.txt -/
/-! which box a mail comes into (plain) -/
set_option maxRecDepth 100000
section MSK
variable {s : Cw} {kp : List Int → Int} {ko : Int → Int} {k : List Int} {n : Int}
theorem ms_of : (cwOf kp s k).2.1.2.2.1 = s.1.2.2.1 := sorry
theorem ms_ref : ∀ (r : List (List Int)) (s : Cw) (last : Int), (cwRef kp s last r).2.1.2.2.1 = s.1.2.2.1 := sorry
theorem ms_hold (h : cwInv s) (hkp : ∀ k, 0 ≤ kp k ∧ kp k ≤ 200000) (hko : ∀ i, 0 ≤ ko i ∧ ko i ≤ 200000) : (cwHold kp ko s k n).2.1.2.2.1 = fup s.1.2.2.1 (cwHold kp ko s k n).1 n ∧ s.1.2.2.1 (cwHold kp ko s k n).1 < 0 := sorry
theorem ms_place {refs : List (List Int)} (h : cwInv s) (hkp : ∀ k, 0 ≤ kp k ∧ kp k ≤ 200000) (hko : ∀ i, 0 ≤ ko i ∧ ko i ≤ 200000) (hn : s.1.2.1 + (refs.length : Int) < 30000) : ∃ j, (cwPlace kp ko s k refs n).1.2.2.1 = fup s.1.2.2.1 j n ∧ s.1.2.2.1 j < 0 := sorry
/-- each mail that is there knows its box -/
def xIs (there : Int → Bool) (s : Cw) (W : List Int) (x : Int → Int) (n : Int) : Prop := ∀ a, 0 ≤ a → a < n → (there a = true → ∃ j, (0 ≤ j ∧ j < len W) ∧ s.1.2.2.1 j = a ∧ x a = gt W j) ∧ (¬ there a = true → x a = -1)
/-- no message is in two boxes; all are below a number -/
def msU (s : Cw) (n : Int) : Prop := (∀ j, s.1.2.2.1 j < n) ∧ ∀ j j', 0 ≤ s.1.2.2.1 j → s.1.2.2.1 j = s.1.2.2.1 j' → j = j'
theorem msU.place {refs : List (List Int)} (hi : msU s n) (n0 : 0 ≤ n) (h : cwInv s) (hkp : ∀ k, 0 ≤ kp k ∧ kp k ≤ 200000) (hko : ∀ i, 0 ≤ ko i ∧ ko i ≤ 200000) (hn : s.1.2.1 + (refs.length : Int) < 30000) : msU (cwPlace kp ko s k refs n) (n + 1) ∧ ∀ j, 0 ≤ s.1.2.2.1 j → (cwPlace kp ko s k refs n).1.2.2.1 j = s.1.2.2.1 j := sorry
end MSK

/-! 85.bj.lean.txt -/
/-! make: all mails find their places -/
set_option maxRecDepth 100000
set_option maxHeartbeats 2000000
/-- how much room the first mails take at most -/
def totR (refs : Int → List (List Int)) : Nat → Int
  | 0 => 0
  | n + 1 => totR refs n + (((refs (n : Int)).length : Int) + 2)
/-- the first mails in their places -/
def mkM (kp : List Int → Int) (ko : Int → Int) (key : Int → List Int) (refs : Int → List (List Int)) (there : Int → Bool) (s : Cw) : Nat → Cw
  | 0 => s
  | n + 1 => if there (n : Int) = true then cwPlace kp ko (mkM kp ko key refs there s n) (key (n : Int)) (refs (n : Int)) (n : Int) else mkM kp ko key refs there s n
section MKM
variable {kp : List Int → Int} {ko : Int → Int} {key : Int → List Int} {refs : Int → List (List Int)} {there : Int → Bool} {s : Cw}
theorem totR_nn : ∀ n : Nat, 2 * (n : Int) ≤ totR refs n := sorry
theorem totR_le {a b : Nat} (h : a ≤ b) : totR refs a ≤ totR refs b := sorry
theorem mkM_ok (h : cwInv s) (hkp : ∀ k, 0 ≤ kp k ∧ kp k ≤ 200000) (hko : ∀ i, 0 ≤ ko i ∧ ko i ≤ 200000) : ∀ n : Nat, s.1.2.1 + totR refs n < 19000 → cwInv (mkM kp ko key refs there s n) ∧ cwGr s (mkM kp ko key refs there s n) (totR refs n) (2 * (n : Int)) (totR refs n) ∧ ∀ a : Nat, a ≤ n → (mkM kp ko key refs there s a).2.2.2.2 ≤ (mkM kp ko key refs there s n).2.2.2.2 := sorry
end MKM
section MSM
variable {kp : List Int → Int} {ko : Int → Int} {key : Int → List Int} {refs : Int → List (List Int)} {there : Int → Bool} {s : Cw}
theorem msU.up {s : Cw} {n m : Int} (h : msU s n) (hn : n ≤ m) : msU s m := sorry
theorem msU.all (hi : msU s 0) (h : cwInv s) (hkp : ∀ k, 0 ≤ kp k ∧ kp k ≤ 200000) (hko : ∀ i, 0 ≤ ko i ∧ ko i ≤ 200000) : ∀ n : Nat, s.1.2.1 + totR refs n < 19000 → msU (mkM kp ko key refs there s n) (n : Int) := sorry
end MSM
section MLW
variable {ω : AO} {d G : Nat} {Θ0 : Th} {L0 : List It} {o l1 : Int} {CF0 : List Int} {s0 : Cw} {X0 : Hx} {ma : Int → Int} {kp : List Int → Int} {ko : Int → Int} {RR : (Int → Int) → List It} {N : Nat} {im jp : Int → Nat} {jl : Nat} {mf ps rs ct : Int → List Int} {ML : List Int} {cl : Int} {pc : Int → Int} {key : Int → List Int} {refs : Int → List (List Int)} {there : Int → Bool} {g0 : Nat}
theorem u_mk47 {Q : Int → Th → Prop} (hd : 34 ≤ d) (hO0 : OwS Θ0 L0) (hma : ∀ n, 0 ≤ n → 0 ≤ ma n) (hkp : ∀ k, 0 ≤ kp k ∧ kp k ≤ 200000) (hko : ∀ i, 0 ≤ ko i ∧ ko i ≤ 200000) (hmf : ∀ n : Int, len (mf n) = 11)
    (hR1 : ∀ x n, 0 ≤ n → n < (N : Int) → (RR x)[im n]? = some (obj (ma n) (29, (mf n).set 10 (x n), 0, 0))) (hR2 : ∀ x n b, 0 ≤ n → n < (N : Int) → (RR x).set (im n) (obj (ma n) (29, (mf n).set 10 b, 0, 0)) = RR (fup x n b)) (hR3 : ∀ x, (RR x)[jl]? = some (lsI l1 ML cl)) (hR4 : ∀ x n, 0 ≤ n → n < (N : Int) → (RR x)[jp n]? = some (lsI (gt (mf n) 4) (ps n) (pc n)))
    (hML : len ML = (N : Int) ∧ ∀ n, 0 ≤ n → n < (N : Int) → gt ML n = ma n) (hth : ∀ n, 0 ≤ n → n < (N : Int) → (there n = true ↔ ps n ≠ []))
    (hst : ∀ n, 0 ≤ n → n < (N : Int) → Str Θ0 (gt (mf n) 1) (key n) ∧ wide (key n) = 0 ∧ 0 ≤ gt (mf n) 1 ∧ Fx Θ0 (gt (mf n) 3) (32, ct n, 0, 0) ∧ (∃ c' e', Fx Θ0 (gt (ct n) 5) (3, rs n, c', e')) ∧ len (rs n) = ((refs n).length : Int) ∧ ∀ q, 0 ≤ q → q < len (rs n) → 0 ≤ gt (rs n) q ∧ Str Θ0 (gt (rs n) q) (kAt (refs n) q) ∧ wide (kAt (refs n) q) = 0 ∧ kAt (refs n) q ≠ [])
    (hs0 : cwInv s0) (hms0 : msU s0 0) (hb1 : s0.1.2.1 + totR refs N < 16000) (hb2 : s0.2.2.1.2.2.1 + 2 * (N : Int) < 18000) (hb3 : (s0.2.2.2.1.length : Int) + totR refs N < 70000) (hG : (g0 : Int) + ((mkM kp ko key refs there s0 N).2.2.2.2 - s0.2.2.2.2) ≤ (G : Int))
    (hQ : ∀ Θ' X' CF' x (g' : Nat), OwT Θ0 L0 Θ' (cwL o CF' (RR x) (mkM kp ko key refs there s0 N) X') → CwI Θ' o CF' (RR x) (mkM kp ko key refs there s0 N) X' ma kp ko → (∀ j, 0 ≤ j → j ≠ 3 → gt CF' j = gt CF0 j) → xIs there (mkM kp ko key refs there s0 N) X'.1 x (N : Int) → (g' : Int) ≤ (g0 : Int) + ((mkM kp ko key refs there s0 N).2.2.2.2 - s0.2.2.2.2) → (kd Θ' o = 24) ∧ ∀ (v100 : Int) (e100 : v100 = gt (vv Θ' o) 4) (r100 : -1 ≤ v100), (kd Θ' v100 = 3) ∧ (¬ fz Θ' v100) ∧ (2 ≤ d) ∧ ∀ (k103 : Int) (Θ103 : Th) (t103 : Θ103 = uq Θ' v100 (3, [], cp Θ' v100, k103)), W2_X10_make_108 ω d G o 0 g' Θ103 Q) :
    ∀ (M n : Nat) (X : Hx) (CF : List Int) (x : Int → Int) (Θ1 : Th) (g : Nat), N - n = M → n ≤ N → OwT Θ0 L0 Θ1 (cwL o CF (RR x) (mkM kp ko key refs there s0 n) X) → CwI Θ1 o CF (RR x) (mkM kp ko key refs there s0 n) X ma kp ko → (∀ j, 0 ≤ j → j ≠ 3 → gt CF j = gt CF0 j) → xIs there (mkM kp ko key refs there s0 n) X.1 x (n : Int) → (g : Int) ≤ (g0 : Int) + ((mkM kp ko key refs there s0 n).2.2.2.2 - s0.2.2.2.2) → W2_X10_make_47 ω d G o l1 (n : Int) g Θ1 Q := sorry
end MLW

/-! 85.bk.lean.txt -/
/-! make: the roots -/
set_option maxRecDepth 100000
set_option maxHeartbeats 2000000
/-- the first boxes that are in none -/
def rtN (f : Fo) : Nat → List Int
  | 0 => []
  | n + 1 => rtN f n ++ (if f.2.2.1 (n : Int) < 0 then [(n : Int)] else [])
theorem rtN_mem {f : Fo} : ∀ (n : Nat) {x : Int}, x ∈ rtN f n ↔ (0 ≤ x ∧ x < (n : Int)) ∧ f.2.2.1 x < 0 := sorry
theorem rtN_nod {f : Fo} : ∀ n : Nat, (rtN f n).Nodup ∧ (rtN f n).length ≤ n := sorry
section MKR
variable {ω : AO} {d G : Nat} {Θ0 : Th} {L0 : List It} {o : Int} {CF CF0 : List Int} {R2 : List It} {s : Cw} {X : Hx} {ma : Int → Int} {kp : List Int → Int} {ko : Int → Int} {r5 r6 r7 r8 r9 : List Int} {c4 c5 c6 c7 c8 c9 : Int} {g0 : Nat}
theorem CwI.g {R : List It} {Θ : Th} (I : CwI Θ o CF R s X ma kp ko) : CwG foDm Θ o CF R s X ma kp ko := sorry
/-- the roots' capacity is told as that of -1 -/
theorem CwG.rt {Kg : Fo → Prop} {R : List It} {Θ : Th} {c : Int} (I : CwG Kg Θ o CF R s X ma kp ko) : CwG Kg Θ o CF R (s.1, fup s.2.1 (-1) c, s.2.2) X ma kp ko := sorry
theorem u_mk108 {Q : Int → Th → Prop} (hd : 12 ≤ d) (hO0 : OwS Θ0 L0) (gCF : ∀ j, 0 ≤ j → j ≠ 3 → gt CF j = gt CF0 j) (hn : s.1.2.1 < 9000) (hc4 : c4 = 0 ∨ 10 ≤ c4) (hm4 : c4 ≤ 3000000) (hG : (g0 : Int) + (2 * s.1.2.1 + 10) ≤ (G : Int))
    (hQ : ∀ Θ' c4' (g' : Nat), OwT Θ0 L0 Θ' (cwL o CF (cvR CF0 ((rtN s.1.2 s.1.2.1.toNat).map (gt X.1)) r5 r6 r7 r8 r9 c4' c5 c6 c7 c8 c9 R2) s X) → CwG foDm Θ' o CF (cvR CF0 ((rtN s.1.2 s.1.2.1.toNat).map (gt X.1)) r5 r6 r7 r8 r9 c4' c5 c6 c7 c8 c9 R2) s X ma kp ko → c4' = adK c4 (rtN s.1.2 s.1.2.1.toNat).length → ((c4' = 0 ∨ 10 ≤ c4') ∧ c4' ≤ max c4 (2 * s.1.2.1 + 10)) → (g' : Int) ≤ (g0 : Int) + (2 * s.1.2.1 + 10) →
      ∀ (v163 : Int) (e163 : v163 = gt (vv Θ' o) 5) (r163 : -1 ≤ v163), ∃ G166 : Nat, (g' + G166 ≤ G) ∧ w2_X10_list ω (d - 1) G166 o v163 Θ' (fun Θ166 => ∀ (L166 : Le Θ' Θ166), ∀ (v170 : Int) (e170 : v170 = gt (vv Θ166 o) 5) (r170 : -1 ≤ v170), (kd Θ166 v170 = 3) ∧ (g' + G166 ≤ G) ∧ ∀ (x173 : Int) (e173 : x173 = len (vv Θ166 v170)) (r173 : -2147483648 ≤ x173 ∧ x173 < 2147483648), W2_X10_make_179 ω d G o (x173 - 1) (g' + G166) Θ166 Q)) :
    ∀ (M k : Nat) (Θ1 : Th) (ca : Int) (g : Nat), s.1.2.1.toNat - k = M → k ≤ s.1.2.1.toNat → OwT Θ0 L0 Θ1 (cwL o CF (cvR CF0 ((rtN s.1.2 k).map (gt X.1)) r5 r6 r7 r8 r9 ca c5 c6 c7 c8 c9 R2) s X) → CwG foDm Θ1 o CF (cvR CF0 ((rtN s.1.2 k).map (gt X.1)) r5 r6 r7 r8 r9 ca c5 c6 c7 c8 c9 R2) s X ma kp ko → ((ca = 0 ∨ 10 ≤ ca) ∧ ((rtN s.1.2 k).length : Int) ≤ ca ∧ c4 ≤ ca ∧ ca ≤ max c4 (2 * s.1.2.1 + 10)) → ca = adK c4 (rtN s.1.2 k).length → (g : Int) ≤ (g0 : Int) + (ca - c4) → W2_X10_make_108 ω d G o (k : Int) g Θ1 Q := sorry
end MKR

/-! 85.bl.lean.txt -/
/-! make: what is needed to put it together (plain) -/
set_option maxRecDepth 100000
section MSG
variable {s : Cw} {kp : List Int → Int} {ko : Int → Int} {k : List Int} {n N : Int}
/-- messages are below a number -/
def msB (s : Cw) (N : Int) : Prop := ∀ b, -1 ≤ s.1.2.2.1 b ∧ s.1.2.2.1 b < N
theorem msB.of (h : msB s N) : msB (cwOf kp s k).2 N := sorry
theorem msB.al (h : msB s N) : msB (cwAl ko s).2 N := h
theorem msB.lv {c : Int} (h : msB s N) : msB (cwLv s c) N := sorry
theorem msB.step {last : Int} (h : msB s N) : msB (cwStep kp s last k) N := sorry
theorem msB.ref : ∀ (r : List (List Int)) (s : Cw) (last : Int), msB s N → msB (cwRef kp s last r).2 N := sorry
theorem msB.hold (h : msB s N) (hn : 0 ≤ n ∧ n < N) : msB (cwHold kp ko s k n).2 N := sorry
theorem msB.place {refs : List (List Int)} (h : msB s N) (hn : 0 ≤ n ∧ n < N) : msB (cwPlace kp ko s k refs n) N := sorry
theorem msB.all {key : Int → List Int} {refs : Int → List (List Int)} {there : Int → Bool} {M : Nat} (h : msB s (M : Int)) : ∀ n : Nat, n ≤ M → msB (mkM kp ko key refs there s n) (M : Int) := sorry
end MSG
section CAPM
variable {s : Cw} {kp : List Int → Int} {ko : Int → Int} {k : List Int} {n : Int}
/-- the roots' capacity is not touched when mails are placed -/
def cpM (s s' : Cw) : Prop := s'.2.1 (-1) = s.2.1 (-1)
theorem cpM.of (h : 0 ≤ s.1.2.1) : cpM s (cwOf kp s k).2 := sorry
theorem cpM.al (h : 0 ≤ s.1.2.1) : cpM s (cwAl ko s).2 := sorry
theorem cpM.put {p c : Int} (h : 0 ≤ p) : cpM s (cwPut s p c) := sorry
theorem cpM.hold (h : cwInv s) (hkp : ∀ k, 0 ≤ kp k ∧ kp k ≤ 200000) (hko : ∀ i, 0 ≤ ko i ∧ ko i ≤ 200000) : cpM s (cwHold kp ko s k n).2 := sorry
theorem cpM.ref (hkp : ∀ k, 0 ≤ kp k ∧ kp k ≤ 200000) : ∀ (r : List (List Int)) (s : Cw) (last : Int), cwInv s → (last = -1 ∨ 0 ≤ last ∧ last < s.1.2.1) → s.1.2.1 + (r.length : Int) < 39000 → cpM s (cwRef kp s last r).2 := sorry
theorem cpM.place {refs : List (List Int)} (h : cwInv s) (hkp : ∀ k, 0 ≤ kp k ∧ kp k ≤ 200000) (hko : ∀ i, 0 ≤ ko i ∧ ko i ≤ 200000) (hn : s.1.2.1 + (refs.length : Int) < 30000) : cpM s (cwPlace kp ko s k refs n) := sorry
theorem cpM.all {key : Int → List Int} {refs : Int → List (List Int)} {there : Int → Bool} (h : cwInv s) (hkp : ∀ k, 0 ≤ kp k ∧ kp k ≤ 200000) (hko : ∀ i, 0 ≤ ko i ∧ ko i ≤ 200000) : ∀ n : Nat, s.1.2.1 + totR refs n < 19000 → cpM s (mkM kp ko key refs there s n) := sorry
end CAPM
section CGC
variable {Θ : Th} {o : Int} {CF : List Int} {R : List It} {s : Cw} {X : Hx} {ma : Int → Int} {kp : List Int → Int} {ko : Int → Int}
theorem CwG.capk (I : CwG foDm Θ o CF R s X ma kp ko) (hK : cwKk s) : capOk s := sorry
theorem cw00_inv (h : cwWk s) (hK : cwKk s) : cwInv (cw00 s) := sorry
end CGC

/-! 85.bm.lean.txt -/
/-! make: what it makes of boxes, by numbers -/
set_option maxRecDepth 100000
theorem insQ_perm {lt : Int → Int → Bool} {b : Int} : ∀ {l : List Int}, (insQ lt b l).Perm (b :: l) := sorry
theorem srtQ_perm {lt : Int → Int → Bool} : ∀ {l acc : List Int}, (srtQ lt acc l).Perm (l ++ acc) := sorry
theorem sortB_perm {lt : Int → Int → Bool} {l : List Int} : (sortB lt l).Perm l := sorry
section ORP
variable {tm : Int → Int}
/-- order puts in order, no more -/
theorem or0_ok : ∀ (ν : List Int) (z : Fo × (Int → Int × Int)), (or0 tm z ν).1.1 = z.1.1 ∧ (or0 tm z ν).1.2.1 = z.1.2.1 ∧ (or0 tm z ν).1.2.2.1 = z.1.2.2.1 ∧ ∀ b, ((or0 tm z ν).1.2.2.2 b).Perm (z.1.2.2.2 b) := sorry
theorem foLk.perm {f g : Fo} {ρ ρ' : List Int} {A : Int → Prop} (h : foLk f ρ A) (e1 : g.1 = f.1) (e3 : g.2.2.1 = f.2.2.1) (hp : ∀ b, (g.2.2.2 b).Perm (f.2.2.2 b)) (hρ : ρ'.Perm ρ) : foLk g ρ' A := sorry
end ORP
/-- the roots, ahead of pruning -/
def rtA (s : Cw) : List Int := rtN s.1.2 s.1.2.1.toNat
def mkR (s : Cw) : Cw := (s.1, fup s.2.1 (-1) (adK (s.2.1 (-1)) (rtA s).length), s.2.2)
/-- pruned from within -/
def mk1 (s : Cw) : Cw := pr0 (mkR s) (liZ s.1.2 (rtA s))
/-- the roots that are left -/
def mkP (s : Cw) : List Int := prF (mk1 s).1.2 true (rtA s)
/-- grouped -/
def mkZ (ko : Int → Int) (sb : Int → List Int) (rp : Int → Bool) (s : Cw) : Cw × List Int × List Int := grZ ko sb rp (cwPr (mk1 s) (-1) (mkP s)) (mkP s)
/-- in order -/
def mkO (ko : Int → Int) (sb : Int → List Int) (rp : Int → Bool) (tm : Int → Int) (s : Cw) : Fo × (Int → Int × Int) := or0 tm ((mkZ ko sb rp s).1.1.2, fun _ => (0, 0)) (liZ (mkZ ko sb rp s).1.1.2 (mkZ ko sb rp s).2.1)
def mkT (ko : Int → Int) (sb : Int → List Int) (rp : Int → Bool) (tm : Int → Int) (s : Cw) : List Int := sortB (ltB (fun x => ((mkO ko sb rp tm s).2 x).1) (fun x => ((mkO ko sb rp tm s).2 x).2)) (mkZ ko sb rp s).2.1
/-- how long lists may get afterwards -/
def capF (s : Cw) (c4 : Int) (j : Int) : Int := if 0 ≤ j ∧ j < s.1.2.1 then s.2.1 j else if j = -1 then c4 else 0
def mkC (ko : Int → Int) (sb : Int → List Int) (rp : Int → Bool) (s : Cw) : Int → Int := capF (mkZ ko sb rp s).1 ((cwPr (mk1 s) (-1) (mkP s)).2.1 (-1))
def mkS (ko : Int → Int) (sb : Int → List Int) (rp : Int → Bool) (tm : Int → Int) (s : Cw) : Cw := (((mkZ ko sb rp s).1.1.1, (mkO ko sb rp tm s).1), mkC ko sb rp s, (mkZ ko sb rp s).1.2.2)
section MKQ
variable {s : Cw} {ko : Int → Int} {sb : Int → List Int} {rp : Int → Bool} {f0 : Fo} {ρ ν P : List Int}
theorem rtA_mem {x : Int} (h0 : 0 ≤ s.1.2.1) (hd : ∀ b, s.1.2.2.2.1 b = -1 ∨ (0 ≤ s.1.2.2.2.1 b ∧ s.1.2.2.2.1 b < s.1.2.1)) : x ∈ rtA s ↔ (0 ≤ x ∧ x < s.1.2.1) ∧ s.1.2.2.2.1 x = -1 := sorry
theorem grI.many {S : List (List Int)} (hko : ∀ i, (ko i = 0 ∨ 10 ≤ ko i) ∧ ko i ≤ 200000) : ∀ (l : List Int) (z : Cw × List Int × List Int) (A : Int → Prop), grI S sb z l A → z.1.1.2.1 + (l.length : Int) < 40000 → (l.foldl (grStep ko sb rp S) z).1.1.2.1 ≤ z.1.1.2.1 + (l.length : Int) := sorry
/-- after grouping all that lies in boxes holds messages, each root that does not has one in it that does; what it is by numbers -/
theorem grZ_ok (hI : prI f0 s ρ [] ν) (hw : cwWk s) (hρ : ∀ x, x ∈ ρ → x ∈ ν) (hall : ∀ b, 0 ≤ b → b < f0.1 → b ∈ ν) (hn : s.1.2.1 < 9000) (hc4 : s.2.1 (-1) = 0 ∨ 10 ≤ s.2.1 (-1)) (hPe : prF s.1.2 true ρ = P) (hko : ∀ i, (ko i = 0 ∨ 10 ≤ ko i) ∧ ko i ≤ 200000) :
    KM (grZ ko sb rp (cwPr s (-1) P) P).1.1.2 ∧ (∀ x, x ∈ (grZ ko sb rp (cwPr s (-1) P) P).2.1 → fst0 (grZ ko sb rp (cwPr s (-1) P) P).1.1.2 x) ∧ 0 ≤ (grZ ko sb rp (cwPr s (-1) P) P).1.2.2.2.2 - s.2.2.2.2 ∧ (grZ ko sb rp (cwPr s (-1) P) P).1.1.2.1 ≤ 2 * s.1.2.1 := sorry
end MKQ
section CGK
variable {Θ : Th} {o : Int} {CF : List Int} {R : List It} {s : Cw} {X : Hx} {ma : Int → Int} {kp : List Int → Int} {ko : Int → Int} {Kg : Fo → Prop} {c' : Int → Int}
/-- bounds for the lists of boxes that are to come -/
def KB (X : Hx) : Prop := (∀ k, 0 ≤ kp00 X k ∧ kp00 X k ≤ 200000) ∧ ∀ i, (ko00 X i = 0 ∨ 10 ≤ ko00 X i) ∧ ko00 X i ≤ 200000
theorem CwG.kb (I : CwG Kg Θ o CF R s X ma kp ko) (hc : capOk s) (hkp : ∀ k, 0 ≤ kp k ∧ kp k ≤ 200000) (hko : ∀ i, (ko i = 0 ∨ 10 ≤ ko i) ∧ ko i ≤ 200000) : KB X := sorry
theorem CwG.cpn (I : CwG Kg Θ o CF R s X ma kp ko) (h : ∀ j, 0 ≤ j → j < len X.1 → c' j = s.2.1 j) : CwG Kg Θ o CF R (s.1, c', s.2.2) X ma kp ko := sorry
/-- the lists' places by what the object says -/
theorem cvR_cf {CF0 : List Int} {r4 r5 r6 r7 r8 r9 : List Int} {c4 c5 c6 c7 c8 c9 : Int} {R2 : List It} (g : ∀ j, 0 ≤ j → j ≠ 3 → gt CF j = gt CF0 j) : cvR CF0 r4 r5 r6 r7 r8 r9 c4 c5 c6 c7 c8 c9 R2 = cvR CF r4 r5 r6 r7 r8 r9 c4 c5 c6 c7 c8 c9 R2 := sorry
end CGK

/-! 85.bn.lean.txt -/
/-! make: the whole of it, from the end -/
set_option maxRecDepth 100000
set_option maxHeartbeats 4000000
section MKC
variable {ω : AO} {d G : Nat} {Θ Θ7 : Th} {L0 : List It} {o : Int} {CF CF7 : List Int} {Z : Cw × List Int × List Int} {X7 : Hx} {ma : Int → Int} {kp : List Int → Int} {ko : Int → Int} {R2 : List It} {N : Int} {there : Int → Bool} {sb : Int → List Int} {rp : Int → Bool} {tm x : Int → Int} {r7 r8 Aσ μ τs : List Int} {c4 c5 c6 c7 c8 c9 : Int} {S : List (List Int)} {A7 : Int → Prop} {z1 : Fo × (Int → Int × Int)} {g7 : Nat}
theorem u_cvC {Q : Int → Th → Prop} (hd : 8 ≤ d) (hO0 : OwS Θ L0) (T7 : OwT Θ L0 Θ7 (cwL o CF7 (cvR CF (Z.2.1.map (gt X7.1)) (μ.map (gt X7.1)) [] r7 r8 Aσ c4 c5 c6 c7 c8 c9 R2) Z.1 X7)) (I7 : CwG foDm Θ7 o CF7 (cvR CF (Z.2.1.map (gt X7.1)) (μ.map (gt X7.1)) [] r7 r8 Aσ c4 c5 c6 c7 c8 c9 R2) Z.1 X7 ma kp ko) (gC7 : ∀ j, 0 ≤ j → j ≠ 3 → gt CF7 j = gt CF j) (hma : ∀ n, 0 ≤ n → 0 ≤ ma n) (hMm : ∀ Θ', Le Θ Θ' → ∀ n, 0 ≤ n → n < N → MlsR R2 Θ' ma sb rp tm n) (hms : msU Z.1 N) (hx : xIs there Z.1 X7.1 x N) (hZA : grI S sb Z [] A7) (kz1 : KM Z.1.1.2) (kz2 : ∀ y, y ∈ Z.2.1 → fst0 Z.1.1.2 y) (hZn : Z.1.1.2.1 < 17000) (hμ : liZ Z.1.1.2 Z.2.1 = μ) (hc4 : c4 = 0 ∨ 10 ≤ c4) (hm4 : c4 ≤ 200000) (hkp : ∀ k, 0 ≤ kp k ∧ kp k ≤ 200000) (hko : ∀ i, (ko i = 0 ∨ 10 ≤ ko i) ∧ ko i ≤ 200000) (hz1 : or0 tm (Z.1.1.2, fun _ => (0, 0)) μ = z1) (hτ : sortB (ltB (fun x => (z1.2 x).1) (fun x => (z1.2 x).2)) Z.2.1 = τs) (hg : g7 ≤ G)
    (hQ : ∀ Θ' X', OwT Θ L0 Θ' (cwL o CF7 (cvR CF7 (τs.map (gt X'.1)) (μ.map (gt X'.1)) [] r7 r8 Aσ c4 c5 c6 c7 c8 c9 R2) ((Z.1.1.1, z1.1), capF Z.1 c4, Z.1.2.2) X') → CwG foDm Θ' o CF7 (cvR CF7 (τs.map (gt X'.1)) (μ.map (gt X'.1)) [] r7 r8 Aσ c4 c5 c6 c7 c8 c9 R2) ((Z.1.1.1, z1.1), capF Z.1 c4, Z.1.2.2) X' ma kp ko →
      cwKk ((Z.1.1.1, z1.1), capF Z.1 c4, Z.1.2.2) → KB X' → xIs there ((Z.1.1.1, z1.1), capF Z.1 c4, Z.1.2.2) X'.1 x N → msU ((Z.1.1.1, z1.1), capF Z.1 c4, Z.1.2.2) N → TmB X'.1 X'.2.2.2.2.2.1 z1.2 μ → (∃ A, foLk z1.1 τs A) → z1.1.1 < 17000 → Q (len Z.2.1) Θ') : W2_X10_make_249 ω d G o ((μ.length : Int) - 1) g7 Θ7 Q := sorry
end MKC

/-! 85.bo.lean.txt -/
/-! make: from pruning on -/
set_option maxRecDepth 100000
set_option maxHeartbeats 4000000
section MKB
variable {ω : AO} {d G : Nat} {Θ Θ5 : Th} {L0 : List It} {o : Int} {CF CF2 : List Int} {sN sR s1 : Cw} {Z : Cw × List Int × List Int} {X2 : Hx} {ma : Int → Int} {kp : List Int → Int} {ko : Int → Int} {R2 : List It} {N : Int} {there : Int → Bool} {sb : Int → List Int} {rp : Int → Bool} {tm x : Int → Int} {r7 r8 r9 ν ρ P : List Int} {c4 c5 c6 c7 c8 c9 k0 : Int} {g0 g5 : Nat}
theorem u_cvB {Q : Int → Th → Prop} (hd : 24 ≤ d) (hO0 : OwS Θ L0) (T5 : OwT Θ L0 Θ5 (cwL o CF2 (cvR CF (ρ.map (gt X2.1)) (ν.map (gt X2.1)) [] r7 r8 r9 c4 c5 c6 c7 c8 c9 R2) sR X2)) (J5 : CwG foDm Θ5 o CF2 (cvR CF (ρ.map (gt X2.1)) (ν.map (gt X2.1)) [] r7 r8 r9 c4 c5 c6 c7 c8 c9 R2) sR X2 ma kp ko) (gC2 : ∀ j, 0 ≤ j → j ≠ 3 → gt CF2 j = gt CF j) (hma : ∀ n, 0 ≤ n → 0 ≤ ma n) (hMm : ∀ Θ', Le Θ Θ' → ∀ n, 0 ≤ n → n < N → MlsR R2 Θ' ma sb rp tm n) (hms : msU sN N) (hx : xIs there sN X2.1 x N) (hLk : foLk sN.1.2 ρ (fun b => 0 ≤ b ∧ b < sN.1.2.1)) (hall : ∀ b, 0 ≤ b → b < sN.1.2.1 → b ∈ liZ sN.1.2 ρ) (hn : sN.1.2.1 < 8500) (hlo : sN.2.2.1.2.2.1 < 20000) (hν : liZ sN.1.2 ρ = ν) (hsR : sR = (sN.1, sR.2.1, sN.2.2)) (hKR : cwKk sR) (hc4e : sR.2.1 (-1) = c4) (hdm : foDm sN.1.2)
    (hc4 : c4 = 0 ∨ 10 ≤ c4) (hm4 : c4 ≤ 200000) (hc5 : c5 = 0 ∨ 10 ≤ c5) (hm5 : c5 ≤ 600000) (hc6 : c6 = 0 ∨ 10 ≤ c6) (hm6 : c6 ≤ 600000) (hc7 : c7 = 0 ∨ 10 ≤ c7) (hm7 : c7 ≤ 600000) (hc8 : c8 = 0 ∨ 10 ≤ c8) (hm8 : c8 ≤ 600000) (hc9 : c9 = 0 ∨ 10 ≤ c9) (hm9 : c9 ≤ 600000) (hkp : ∀ k, 0 ≤ kp k ∧ kp k ≤ 200000) (hko : ∀ i, (ko i = 0 ∨ 10 ≤ ko i) ∧ ko i ≤ 200000)
    (hs1 : pr0 sR ν = s1) (hP : prF s1.1.2 true ρ = P) (hZ : grZ ko sb rp (cwPr s1 (-1) P) P = Z) (hG1 : (g5 : Int) + (s1.2.2.2.2 - sN.2.2.2.2) ≤ (G : Int)) (hG : (g5 : Int) + (Z.1.2.2.2.2 - sN.2.2.2.2) + (14 * sN.1.2.1 + 50) ≤ (G : Int))
    (hQ : ∀ Θ' X' CF' Aσ r7' r8' c5' c6' c7' c8' c9', OwT Θ L0 Θ' (cwL o CF' (cvR CF' ((sortB (ltB (fun x => ((or0 tm (Z.1.1.2, fun _ => (0, 0)) (liZ Z.1.1.2 Z.2.1)).2 x).1) (fun x => ((or0 tm (Z.1.1.2, fun _ => (0, 0)) (liZ Z.1.1.2 Z.2.1)).2 x).2)) Z.2.1).map (gt X'.1)) ((liZ Z.1.1.2 Z.2.1).map (gt X'.1)) [] r7' r8' Aσ ((cwPr s1 (-1) P).2.1 (-1)) c5' c6' c7' c8' c9' R2) ((Z.1.1.1, (or0 tm (Z.1.1.2, fun _ => (0, 0)) (liZ Z.1.1.2 Z.2.1)).1), capF Z.1 ((cwPr s1 (-1) P).2.1 (-1)), Z.1.2.2) X') →
      CwG foDm Θ' o CF' (cvR CF' ((sortB (ltB (fun x => ((or0 tm (Z.1.1.2, fun _ => (0, 0)) (liZ Z.1.1.2 Z.2.1)).2 x).1) (fun x => ((or0 tm (Z.1.1.2, fun _ => (0, 0)) (liZ Z.1.1.2 Z.2.1)).2 x).2)) Z.2.1).map (gt X'.1)) ((liZ Z.1.1.2 Z.2.1).map (gt X'.1)) [] r7' r8' Aσ ((cwPr s1 (-1) P).2.1 (-1)) c5' c6' c7' c8' c9' R2) ((Z.1.1.1, (or0 tm (Z.1.1.2, fun _ => (0, 0)) (liZ Z.1.1.2 Z.2.1)).1), capF Z.1 ((cwPr s1 (-1) P).2.1 (-1)), Z.1.2.2) X' ma kp ko →
      cwKk ((Z.1.1.1, (or0 tm (Z.1.1.2, fun _ => (0, 0)) (liZ Z.1.1.2 Z.2.1)).1), capF Z.1 ((cwPr s1 (-1) P).2.1 (-1)), Z.1.2.2) → KB X' → ((cwPr s1 (-1) P).2.1 (-1) = 0 ∨ 10 ≤ (cwPr s1 (-1) P).2.1 (-1)) → (∀ j, 0 ≤ j → j ≠ 3 → gt CF' j = gt CF j) → xIs there ((Z.1.1.1, (or0 tm (Z.1.1.2, fun _ => (0, 0)) (liZ Z.1.1.2 Z.2.1)).1), capF Z.1 ((cwPr s1 (-1) P).2.1 (-1)), Z.1.2.2) X'.1 x N → msU ((Z.1.1.1, (or0 tm (Z.1.1.2, fun _ => (0, 0)) (liZ Z.1.1.2 Z.2.1)).1), capF Z.1 ((cwPr s1 (-1) P).2.1 (-1)), Z.1.2.2) N → TmB X'.1 X'.2.2.2.2.2.1 (or0 tm (Z.1.1.2, fun _ => (0, 0)) (liZ Z.1.1.2 Z.2.1)).2 (liZ Z.1.1.2 Z.2.1) → (∃ A, foLk (or0 tm (Z.1.1.2, fun _ => (0, 0)) (liZ Z.1.1.2 Z.2.1)).1 (sortB (ltB (fun x => ((or0 tm (Z.1.1.2, fun _ => (0, 0)) (liZ Z.1.1.2 Z.2.1)).2 x).1) (fun x => ((or0 tm (Z.1.1.2, fun _ => (0, 0)) (liZ Z.1.1.2 Z.2.1)).2 x).2)) Z.2.1) A) → (or0 tm (Z.1.1.2, fun _ => (0, 0)) (liZ Z.1.1.2 Z.2.1)).1.1 < 17000 →
      ((c5' = 0 ∨ 10 ≤ c5') ∧ c5' ≤ max c5 40000) → ((c6' = 0 ∨ 10 ≤ c6') ∧ c6' ≤ max c6 40000) → ((c7' = 0 ∨ 10 ≤ c7') ∧ c7' ≤ max c7 40000) → ((c8' = 0 ∨ 10 ≤ c8') ∧ c8' ≤ max c8 40000) → ((c9' = 0 ∨ 10 ≤ c9') ∧ c9' ≤ max c9 40000) → Q (len Z.2.1) Θ') : W2_X10_make_179 ω d G o ((ν.length : Int) - 1) g5 Θ5 Q := sorry
end MKB

/-! 85.bp.lean.txt -/
/-! make: the whole of it -/
set_option maxRecDepth 100000
set_option maxHeartbeats 4000000
theorem mx_le {a b c n : Int} (h : a ≤ max b 40000) (h2 : b ≤ max c (2 * n + 10)) (hn : n < 8500) : a ≤ max c 40000 := sorry
section MKW
variable {ω : AO} {d G : Nat} {Θ : Th} {o l1 : Int} {CF : List Int} {s sN : Cw} {X : Hx} {ma : Int → Int} {kp : List Int → Int} {ko : Int → Int} {RR : (Int → Int) → List It} {N : Nat} {im jp : Int → Nat} {jl : Nat} {mf ps rs ct : Int → List Int} {ML : List Int} {cl : Int} {pc : Int → Int} {key : Int → List Int} {refs : Int → List (List Int)} {there : Int → Bool} {sb : Int → List Int} {rp : Int → Bool} {tm x0 : Int → Int} {r4 r5 r6 r7 r8 r9 : List Int} {c5 c6 c7 c8 c9 : Int}
theorem u_cv_make {Q : Int → Th → Prop} (hd : 36 ≤ d) (I : CwG foDm Θ o CF (cvR CF r4 r5 r6 r7 r8 r9 (s.2.1 (-1)) c5 c6 c7 c8 c9 (RR x0)) s X ma kp ko) (hK : cwKk s) (hB : KB X) (hc4 : s.2.1 (-1) = 0 ∨ 10 ≤ s.2.1 (-1)) (hc5 : c5 = 0 ∨ 10 ≤ c5) (hm5 : c5 ≤ 500000) (hc6 : c6 = 0 ∨ 10 ≤ c6) (hm6 : c6 ≤ 500000) (hc7 : c7 = 0 ∨ 10 ≤ c7) (hm7 : c7 ≤ 500000) (hc8 : c8 = 0 ∨ 10 ≤ c8) (hm8 : c8 ≤ 500000) (hc9 : c9 = 0 ∨ 10 ≤ c9) (hm9 : c9 ≤ 500000)
    (hma : ∀ n, 0 ≤ n → 0 ≤ ma n) (hmf : ∀ n : Int, len (mf n) = 11)
    (hR1 : ∀ x n, 0 ≤ n → n < (N : Int) → (RR x)[im n]? = some (obj (ma n) (29, (mf n).set 10 (x n), 0, 0))) (hR2 : ∀ x n b, 0 ≤ n → n < (N : Int) → (RR x).set (im n) (obj (ma n) (29, (mf n).set 10 b, 0, 0)) = RR (fup x n b)) (hR3 : ∀ x, (RR x)[jl]? = some (lsI l1 ML cl)) (hR4 : ∀ x n, 0 ≤ n → n < (N : Int) → (RR x)[jp n]? = some (lsI (gt (mf n) 4) (ps n) (pc n)))
    (hML : len ML = (N : Int) ∧ ∀ n, 0 ≤ n → n < (N : Int) → gt ML n = ma n) (hth : ∀ n, 0 ≤ n → n < (N : Int) → (there n = true ↔ ps n ≠ []))
    (hst : ∀ n, 0 ≤ n → n < (N : Int) → Str Θ (gt (mf n) 1) (key n) ∧ wide (key n) = 0 ∧ 0 ≤ gt (mf n) 1 ∧ Fx Θ (gt (mf n) 3) (32, ct n, 0, 0) ∧ (∃ c' e', Fx Θ (gt (ct n) 5) (3, rs n, c', e')) ∧ len (rs n) = ((refs n).length : Int) ∧ ∀ q, 0 ≤ q → q < len (rs n) → 0 ≤ gt (rs n) q ∧ Str Θ (gt (rs n) q) (kAt (refs n) q) ∧ wide (kAt (refs n) q) = 0 ∧ kAt (refs n) q ≠ [])
    (hct : ∀ n, 0 ≤ n → n < (N : Int) → Str Θ (gt (ct n) 9) (sb n) ∧ gt (ct n) 10 = (if rp n = true then 1 else 0) ∧ gt (ct n) 11 = tm n ∧ gt (mf n) 0 = n)
    (hsN : sN = mkM (kp00 X) (ko00 X) key refs there (cw00 s) N)
    (hb1 : totR refs N < 8000) (hb2 : s.2.2.1.2.2.1 + 2 * (N : Int) < 18000) (hb3 : (s.2.2.2.1.length : Int) + totR refs N < 70000) (hG1 : sN.2.2.2.2 - s.2.2.2.2 + (2 * sN.1.2.1 + 10) + (4 * sN.1.2.1 + 20) ≤ (G : Int)) (hG1' : (mk1 sN).2.2.2.2 - s.2.2.2.2 + (6 * sN.1.2.1 + 30) ≤ (G : Int)) (hG : (mkZ (ko00 X) sb rp sN).1.2.2.2.2 - s.2.2.2.2 + (20 * sN.1.2.1 + 80) ≤ (G : Int))
    (hQ : ∀ Θ' X' CF' x Aσ r7' r8' c5' c6' c7' c8' c9', OwT Θ (cwL o CF (cvR CF r4 r5 r6 r7 r8 r9 (s.2.1 (-1)) c5 c6 c7 c8 c9 (RR x0)) s X) Θ' (cwL o CF' (cvR CF' ((mkT (ko00 X) sb rp tm sN).map (gt X'.1)) ((liZ (mkZ (ko00 X) sb rp sN).1.1.2 (mkZ (ko00 X) sb rp sN).2.1).map (gt X'.1)) [] r7' r8' Aσ ((mkS (ko00 X) sb rp tm sN).2.1 (-1)) c5' c6' c7' c8' c9' (RR x)) (mkS (ko00 X) sb rp tm sN) X') →
      CwG foDm Θ' o CF' (cvR CF' ((mkT (ko00 X) sb rp tm sN).map (gt X'.1)) ((liZ (mkZ (ko00 X) sb rp sN).1.1.2 (mkZ (ko00 X) sb rp sN).2.1).map (gt X'.1)) [] r7' r8' Aσ ((mkS (ko00 X) sb rp tm sN).2.1 (-1)) c5' c6' c7' c8' c9' (RR x)) (mkS (ko00 X) sb rp tm sN) X' ma (kp00 X) (ko00 X) →
      cwKk (mkS (ko00 X) sb rp tm sN) → KB X' → ((mkS (ko00 X) sb rp tm sN).2.1 (-1) = 0 ∨ 10 ≤ (mkS (ko00 X) sb rp tm sN).2.1 (-1)) → (∀ j, 0 ≤ j → j ≠ 3 → gt CF' j = gt CF j) → xIs there (mkS (ko00 X) sb rp tm sN) X'.1 x (N : Int) → msU (mkS (ko00 X) sb rp tm sN) (N : Int) → TmB X'.1 X'.2.2.2.2.2.1 (mkO (ko00 X) sb rp tm sN).2 (liZ (mkZ (ko00 X) sb rp sN).1.1.2 (mkZ (ko00 X) sb rp sN).2.1) → (∃ A, foLk (mkS (ko00 X) sb rp tm sN).1.2 (mkT (ko00 X) sb rp tm sN) A) → (mkS (ko00 X) sb rp tm sN).1.2.1 < 17000 →
      ((c5' = 0 ∨ 10 ≤ c5') ∧ c5' ≤ max c5 40000) → ((c6' = 0 ∨ 10 ≤ c6') ∧ c6' ≤ max c6 40000) → ((c7' = 0 ∨ 10 ≤ c7') ∧ c7' ≤ max c7 40000) → ((c8' = 0 ∨ 10 ≤ c8') ∧ c8' ≤ max c8 40000) → ((c9' = 0 ∨ 10 ≤ c9') ∧ c9' ≤ max c9 40000) → Q (len (mkZ (ko00 X) sb rp sN).2.1) Θ') : w2_X10_make ω d G o l1 Θ Q := sorry
end MKW

