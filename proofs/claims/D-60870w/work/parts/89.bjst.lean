/-! 89.a0.lean.txt -/
/-! exceptions are made: Throwable's constructor under those of its heirs -/
set_option maxRecDepth 100000
set_option maxHeartbeats 4000000
def yJ24_init : MethodName := ⟨RJ24, "<init>", "()V"⟩
abbrev cJ24_init : ByteArray := prog_76_method_1_code
theorem dJ24_init_0 : decode cJ24_init 0 = .ok (.aload_n 0, 1) := sorry
theorem dJ24_init_1 : decode cJ24_init 1 = .ok (.invokespecial 1, 3) := sorry
theorem dJ24_init_4 : decode cJ24_init 4 = .ok (.return_, 1) := sorry
def w2_J16_init_2 (ω : AO) (d G : Nat) (l0 : Int) (Θ : Th) (Q : Th → Prop) : Prop := Hid (∀ S, bel S → R2 ω S Θ → Ctr ω yJ16_init_2 cJ16_init_2 1 none d G [(2, l0)] S (eU S (q2U ω Θ Q)))
def w2_J17_init_2 (ω : AO) (d G : Nat) (l0 : Int) (Θ : Th) (Q : Th → Prop) : Prop := Hid (∀ S, bel S → R2 ω S Θ → Ctr ω yJ17_init_2 cJ17_init_2 1 none d G [(2, l0)] S (eU S (q2U ω Θ Q)))
def w2_J20_init_2 (ω : AO) (d G : Nat) (l0 : Int) (Θ : Th) (Q : Th → Prop) : Prop := Hid (∀ S, bel S → R2 ω S Θ → Ctr ω yJ20_init_2 cJ20_init_2 1 none d G [(2, l0)] S (eU S (q2U ω Θ Q)))
def w2_J24_init (ω : AO) (d G : Nat) (l0 : Int) (Θ : Th) (Q : Th → Prop) : Prop := Hid (∀ S, bel S → R2 ω S Θ → Ctr ω yJ24_init cJ24_init 1 none d G [(2, l0)] S (eU S (q2U ω Θ Q)))
theorem lm_X54_1 : ILk RX54 1 yJ16_init_2 cJ16_init_2 1 0 := sorry
theorem lf_X54_7_59 : FLk RX54 7 59 6 .int true := sorry
theorem lf_X54_13_59 : FLk RX54 13 59 7 .int true := sorry
theorem lm_J17_1 : ILk RJ17 1 yJ16_init_2 cJ16_init_2 1 0 := sorry
theorem lm_J20_1 : ILk RJ20 1 yJ16_init_2 cJ16_init_2 1 0 := sorry
theorem lm_J24_1 : ILk RJ24 1 yJ16_init_2 cJ16_init_2 1 0 := sorry
set_option maxHeartbeats 4000000 in
theorem s2_X54_init {ω : AO} {d G : Nat} {l0 l1 l2 : Int} {Θ : Th} {Q : Th → Prop} (hB : (1 ≤ d) ∧ (0 ≤ l0) ∧ ∃ G1 : Nat, (0 + G1 ≤ G) ∧ w2_J16_init_2 ω (d - 1) G1 l0 Θ (fun Θ1 => ∀ (L1 : Le Θ Θ1), (kd Θ1 l0 = 59) ∧ (¬ fz Θ1 l0) ∧ (-2147483648 ≤ l1 ∧ l1 < 2147483648) ∧ ∀ (Θ6 : Th) (t6 : Θ6 = pf Θ1 l0 6 l1), (¬ fz Θ6 l0) ∧ (-2147483648 ≤ l2 ∧ l2 < 2147483648) ∧ ∀ (Θ11 : Th) (t11 : Θ11 = pf Θ6 l0 7 l2), (0 + G1 ≤ G) ∧ Q Θ11)) : w2_X54_init ω d G l0 l1 l2 Θ Q := sorry
set_option maxHeartbeats 4000000 in
theorem s2_J17_init_2 {ω : AO} {d G : Nat} {l0 : Int} {Θ : Th} {Q : Th → Prop} (hB : (1 ≤ d) ∧ (0 ≤ l0) ∧ ∃ G1 : Nat, (0 + G1 ≤ G) ∧ w2_J16_init_2 ω (d - 1) G1 l0 Θ (fun Θ1 => ∀ (L1 : Le Θ Θ1), (0 + G1 ≤ G) ∧ Q Θ1)) : w2_J17_init_2 ω d G l0 Θ Q := sorry
set_option maxHeartbeats 4000000 in
theorem s2_J20_init_2 {ω : AO} {d G : Nat} {l0 : Int} {Θ : Th} {Q : Th → Prop} (hB : (1 ≤ d) ∧ (0 ≤ l0) ∧ ∃ G1 : Nat, (0 + G1 ≤ G) ∧ w2_J16_init_2 ω (d - 1) G1 l0 Θ (fun Θ1 => ∀ (L1 : Le Θ Θ1), (0 + G1 ≤ G) ∧ Q Θ1)) : w2_J20_init_2 ω d G l0 Θ Q := sorry
set_option maxHeartbeats 4000000 in
theorem s2_J24_init {ω : AO} {d G : Nat} {l0 : Int} {Θ : Th} {Q : Th → Prop} (hB : (1 ≤ d) ∧ (0 ≤ l0) ∧ ∃ G1 : Nat, (0 + G1 ≤ G) ∧ w2_J16_init_2 ω (d - 1) G1 l0 Θ (fun Θ1 => ∀ (L1 : Le Θ Θ1), (0 + G1 ≤ G) ∧ Q Θ1)) : w2_J24_init ω d G l0 Θ Q := sorry
section EXM
variable {ω : AO} {d G : Nat} {Θ : Th} {a : Int} {F : List Int} {t N : Nat}
theorem th_core {Q : Th → Prop} {X : String} {TX : u_T} (ps : List Nat) (hs : noTr ω) (hp : thA "java/lang/RuntimeException" "java/lang/Exception" X [] 1 = ps.filterMap (fun i => lw_tbl[i]?)) (hg : (thA "java/lang/RuntimeException" "java/lang/Exception" X [] 1).all thG = true) (hq : aCl[t]? = some (X, TX, N)) (h0 : 0 < t ∧ t < 71) (hN : 5 ≤ N) (hT : thrF TX t) (hpl : plK t = true) (hnF : nF t = N)
    (hd : 6 ≤ d) (h : xo Θ a = (t, F, 0, 0)) (hf : ¬ fz Θ a) (h4 : gt F 4 = -1) (hQ : ∀ Θ' x y, Θ' = uq Θ a (t, ((F.set 0 a).set 1 x).set 2 y, 0, 0) → Q Θ') : w2_J16_init_2 ω d G a Θ Q := sorry
/-- those that are made here -/
theorem u_J16_init_2 {Q : Th → Prop} (hs : noTr ω) (hd : 6 ≤ d) (h : xo Θ a = (t, F, 0, 0)) (ht : t = 59 ∨ t = 6 ∨ t = 8 ∨ t = 11) (hf : ¬ fz Θ a) (h4 : gt F 4 = -1) (hQ : ∀ Θ' x y, Θ' = uq Θ a (t, ((F.set 0 a).set 1 x).set 2 y, 0, 0) → Q Θ') : w2_J16_init_2 ω d G a Θ Q := sorry
theorem u_J17_init_2 {Q : Th → Prop} (hs : noTr ω) (hd : 8 ≤ d) (ha : 0 ≤ a) (h : xo Θ a = (6, F, 0, 0)) (hf : ¬ fz Θ a) (h4 : gt F 4 = -1) (hQ : ∀ Θ' x y, Θ' = uq Θ a (6, ((F.set 0 a).set 1 x).set 2 y, 0, 0) → Q Θ') : w2_J17_init_2 ω d G a Θ Q := sorry
theorem u_J20_init_2 {Q : Th → Prop} (hs : noTr ω) (hd : 8 ≤ d) (ha : 0 ≤ a) (h : xo Θ a = (8, F, 0, 0)) (hf : ¬ fz Θ a) (h4 : gt F 4 = -1) (hQ : ∀ Θ' x y, Θ' = uq Θ a (8, ((F.set 0 a).set 1 x).set 2 y, 0, 0) → Q Θ') : w2_J20_init_2 ω d G a Θ Q := sorry
theorem u_J24_init {Q : Th → Prop} (hs : noTr ω) (hd : 8 ≤ d) (ha : 0 ≤ a) (h : xo Θ a = (11, F, 0, 0)) (hf : ¬ fz Θ a) (h4 : gt F 4 = -1) (hQ : ∀ Θ' x y, Θ' = uq Θ a (11, ((F.set 0 a).set 1 x).set 2 y, 0, 0) → Q Θ') : w2_J24_init ω d G a Θ Q := sorry
/-- what Throwable's constructor does to a fault -/
theorem u_X54_init {Q : Th → Prop} {x y : Int} (hs : noTr ω) (hd : 10 ≤ d) (h : xo Θ a = (59, [-1, -1, -1, -1, -1, 0, 0, 0], 0, 0)) (hf : ¬ fz Θ a) (ha : 0 ≤ a) (hx : inI x) (hy : inI y) (hQ : ∀ Θ' F, Θ' = uq Θ a (59, F, 0, 0) → gt F 6 = x → gt F 7 = y → Q Θ') : w2_X54_init ω d G a x y Θ Q := sorry
end EXM

/-! 89.aa.lean.txt -/
/-! the reader of a query: faults; trees -/
set_option maxRecDepth 100000
set_option maxHeartbeats 4000000
theorem blX {ω : AO} {y : MethodName} {cc : ByteArray} {nL : Nat} {ret : Option FieldType} {d G : Nat} {P : AS → Th → Option AV → AS → Prop} {PX : AS → Th → String → Int → AS → Prop} {pc : Nat} {vs st : List AV} {g : Nat} {Θ : Th} (h : Bl Θ → Hid (SJX2 ω y cc nL ret d G P PX pc vs st g Θ)) : Hid (SJX2 ω y cc nL ret d G P PX pc vs st g Θ) := sorry
/-- a fault -/
def FltO (Θ : Th) (q what pl : Int) : Prop := ∃ F, xo Θ q = (59, F, 0, 0) ∧ gt F 6 = what ∧ gt F 7 = pl
abbrev rdI (r s k c : Int) : It := obj r (58, [s, k, c], 0, 0)
section FLT
variable {ω : AO} {d G : Nat} {Θ Θ1 Θ0 : Th} {L0 L : List It} {r s k c x : Int} {l w : List Int}
theorem rd_T {Θ' : Th} {k' c' : Int} (hO : OwS Θ (rdI r s k c :: L)) (g : GrX (· = r) Θ Θ') (h : RdS Θ' r s k' c') : OwT Θ (rdI r s k c :: L) Θ' (rdI r s k' c' :: L) := sorry
theorem rd_of (hO : OwS Θ (rdI r s k c :: L)) : RdS Θ r s k c := hO.head.1
/-- a fault is thrown, or made -/
theorem u_flt {P : Th → Prop} {v what pl : Int} {g : Nat} (hs9 : noTr ω) (hd : 11 ≤ d) (hO : OwS Θ L) (b : Bl Θ) (u : nt Θ ≤ v ∧ 0 ≤ v) (t : Θ1 = nu Θ v (59, [-1, -1, -1, -1, -1, 0, 0, 0], 0, 0)) (hw : inI what) (hp : inI pl) (hG : g + 4 ≤ G)
    (hQ : ∀ Θ', OwT Θ L Θ' L → FltO Θ' v what pl → P Θ') : ∃ Gx : Nat, (g + Gx ≤ G) ∧ w2_X54_init ω (d - 1) Gx v what pl Θ1 (fun Θ23 => ∀ (_ : Le Θ1 Θ23), (g + Gx ≤ G) ∧ P Θ23) := sorry
/-- what can't stand at hand -/
def wrW (l : List Int) (k : Int) : Int := if k = len l then 1 else if gt l k ≠ 40 ∧ gt l k ≠ 41 ∧ gt l k ≠ 34 ∧ ¬ chQP (gt l k) then 2 else 1
theorem u_X53_wrong {Q : Int → Th → Prop} (hs9 : noTr ω) (hd : 16 ≤ d) (hO : OwS Θ (rdI r s k c :: L)) (hs : Str Θ s l) (hk : 0 ≤ k ∧ k ≤ len l) (hl : len l ≤ 1000000) (hG : 6 ≤ G)
    (hQ : ∀ q Θ', OwT Θ (rdI r s k c :: L) Θ' (rdI r s (skQ l k) c :: L) → FltO Θ' q (wrW l (skQ l k)) (skQ l k) → 0 ≤ q → Q q Θ') : w2_X53_wrong ω d G r Θ Q := sorry
/-- no text at hand -/
def txW (l : List Int) (k : Int) : Int := if k < len l ∧ (gt l k < 33 ∨ 126 < gt l k ∨ gt l k = 58) ∧ gt l k ≠ 32 ∧ gt l k ≠ 9 then 2 else 1
theorem u_X53_textless {Q : Int → Th → Prop} {y : Int} (hs9 : noTr ω) (hd : 16 ≤ d) (hO : OwS Θ (rdI r s k c :: L)) (hs : Str Θ s l) (hk : 0 ≤ k ∧ k ≤ len l) (hl : len l ≤ 1000000) (hG : 6 ≤ G)
    (hQ : ∀ q Θ', OwT Θ (rdI r s k c :: L) Θ' (rdI r s k c :: L) → FltO Θ' q (txW l k) k → 0 ≤ q → Q q Θ') : w2_X53_textless ω d G r y Θ Q := sorry
end FLT

/-! 89.ab.lean.txt -/
/-! trees of a query; one atom is read -/
set_option maxRecDepth 100000
set_option maxHeartbeats 4000000
/-- an atom: field, text, whether a phrase -/
abbrev Ato : Type := Int × List Int × Bool
abbrev Evl : Type := Ato → Int → Bool
/-- a tree in a row, operands ahead of their sign: 0 an atom, 1 not, -3 -4 -5 and, or, xor -/
abbrev Den : Type := List (Int × Ato)
def ato0 : Ato := (0, [], false)
def dLf (a : Ato) : Den := [(0, a)]
def dNo (T : Den) : Den := T ++ [(1, ato0)]
def cmb (sg : Int) (T U : Den) : Den := T ++ (U ++ [(sg, ato0)])
def fdD (sg : Int) : List (Den × List It) → Den
  | [] => []
  | y :: r => r.foldl (fun T z => cmb sg T z.1) y.1
theorem fdD_app {sg : Int} {z : Den × List It} : ∀ {C : List (Den × List It)}, C ≠ [] → fdD sg (C ++ [z]) = cmb sg (fdD sg C) z.1 := sorry
/-- a range, where there is one -/
def rgL (rg fld : Int) (txt : List Int) : List It := if fld = 11 ∨ fld = 12 then [obj rg (rgO (decide (fld = 11)) txt)] else []
def LfR (Θ : Th) (r : Int) (T : Den) (LI : List It) : Prop :=
  ∃ at_ sm rg e s fld ph txt, LI = obj r (62, [at_, sm, rg, -1, e], 0, 0) :: obj at_ (atC fld s ph) :: rgL rg fld txt ∧ Str Θ s txt ∧ Str Θ sm (txt.map lowB) ∧ Str Θ e [] ∧ (0 ≤ fld ∧ fld ≤ 12) ∧ gdF fld txt ph = true ∧ wide txt = 0 ∧ byt txt ∧ T = dLf (fld, txt, ph)
/-- a tree: its root, what it means, its items -/
def TrR (Θ : Th) : Nat → Int → Den → List It → Prop
  | 0, _, _, _ => False
  | n + 1, r, T, LI => LfR Θ r T LI ∨ (∃ r1 T1 L1, LI = obj r (63, [r1], 0, 0) :: L1 ∧ TrR Θ n r1 T1 L1 ∧ T = dNo T1) ∨
    (∃ sg li c rs C, LI = obj r (64, [sg, li], 0, 0) :: lsI li rs c :: C.flatMap (fun y => y.2) ∧ C ≠ [] ∧ (sg = -3 ∨ sg = -4 ∨ sg = -5) ∧ all2 (fun x (y : Den × List It) => TrR Θ n x y.1 y.2) rs C ∧ T = fdD sg C)
theorem LfR.le {Θ Θ1 : Th} {r : Int} {T : Den} {LI : List It} (h : LfR Θ r T LI) (L : Le Θ Θ1) : LfR Θ1 r T LI := sorry
theorem TrR.le {Θ Θ1 : Th} (L : Le Θ Θ1) : ∀ (n : Nat) {r : Int} {T : Den} {LI : List It}, TrR Θ n r T LI → TrR Θ1 n r T LI := sorry
theorem TrR.up {Θ : Th} : ∀ (n : Nat) {r : Int} {T : Den} {LI : List It}, TrR Θ n r T LI → TrR Θ (n + 1) r T LI := sorry
theorem TrR.add {Θ : Th} {n : Nat} {r : Int} {T : Den} {LI : List It} (h : TrR Θ n r T LI) : ∀ k : Nat, TrR Θ (n + k) r T LI
  | 0 => h
  | k + 1 => TrR.up (n + k) (TrR.add h k)
/-- a tree of some height -/
def TrH (h : Int) (Θ : Th) (r : Int) (T : Den) (LI : List It) : Prop := ∃ n : Nat, (n : Int) ≤ h ∧ TrR Θ n r T LI
theorem TrH.le {h : Int} {Θ Θ1 : Th} {r : Int} {T : Den} {LI : List It} (hT : TrH h Θ r T LI) (L : Le Θ Θ1) : TrH h Θ1 r T LI := by
  obtain ⟨n, h0, h⟩ := hT
  exact ⟨n, h0, h.le L n⟩
theorem TrH.mono {h h' : Int} {Θ : Th} {r : Int} {T : Den} {LI : List It} (hT : TrH h Θ r T LI) (hh : h ≤ h') : TrH h' Θ r T LI := sorry
theorem TrH.at {h : Int} {Θ : Th} {r : Int} {T : Den} {LI : List It} (hT : TrH h Θ r T LI) : TrR Θ h.toNat r T LI := sorry
theorem TrH.sev {h : Int} {Θ : Th} {r sg li c : Int} {rs : List Int} {C : List (Den × List It)} (ha : all2 (fun x (y : Den × List It) => TrH (h - 1) Θ x y.1 y.2) rs C) (hC : C ≠ []) (hs : sg = -3 ∨ sg = -4 ∨ sg = -5) (h1 : 1 ≤ h) : TrH h Θ r (fdD sg C) (obj r (64, [sg, li], 0, 0) :: lsI li rs c :: C.flatMap (fun y => y.2)) := sorry
theorem TrH.not {h : Int} {Θ : Th} {r r1 : Int} {T : Den} {L : List It} (hT : TrH (h - 1) Θ r1 T L) : TrH h Θ r (dNo T) (obj r (63, [r1], 0, 0) :: L) := sorry
/-- what a reading gives: a fault (0: none) and its place, what the tree means, where the reader stands, how many atoms, the cost -/
abbrev PRes : Type := (Int × Int) × Den × Int × Int × Int
def pX (what pl cost : Int) : PRes := ((what, pl), [], 0, 0, cost)
def atBad (l : List Int) (k : Int) : Bool := decide (k = len l) || (wdF l k [97, 110, 100] || (wdF l k [111, 114] || (wdF l k [120, 111, 114] || (sgQ l k 41 || sgQ l k 58))))
abbrev atIsD (l : List Int) (k : Int) : Bool := smA l k (peF l k) && decide (peF l k < len l ∧ gt l (peF l k) = 58)
def atFld (l : List Int) (k : Int) : Int := if atIsD l k = true then foF (sub l k (peF l k)) else 0
def atAt (l : List Int) (k : Int) : Int := if atIsD l k = true then peF l k + 1 else k
def atPh (l : List Int) (a : Int) : Bool := decide (a < len l ∧ gt l a = 34)
def atLast (l : List Int) (a : Int) : Int := if atPh l a = true then idx l 34 (a + 1) else peF l a
def atTxt (l : List Int) (a : Int) : List Int := if atPh l a = true then sub l (a + 1) (atLast l a) else sub l a (atLast l a)
def atCo (l : List Int) (k : Int) : Int := (if atIsD l k = true then max 0 (peF l k - k) + 11 else 0) + 10 * len (atTxt l (atAt l k)) + 120
def atF (l : List Int) (k c : Int) : PRes :=
  if atBad l k = true then pX (wrW l k) k 6
  else if atFld l k < 0 then pX 3 k (atCo l k)
  else if c = 40 ∧ k < atAt l k then pX 5 k (atCo l k)
  else if atPh l (atAt l k) = true ∧ atLast l (atAt l k) < atAt l k + 2 then pX 2 (atAt l k) (atCo l k)
  else if atPh l (atAt l k) = false ∧ atLast l (atAt l k) = atAt l k then pX (txW l (atAt l k)) (atAt l k) (atCo l k)
  else if gdF (atFld l k) (atTxt l (atAt l k)) (atPh l (atAt l k)) = false then pX 4 (atAt l k) (atCo l k)
  else if c = 40 then pX 5 k (atCo l k)
  else ((0, 0), dLf (atFld l k, atTxt l (atAt l k), atPh l (atAt l k)), (if atPh l (atAt l k) = true then atLast l (atAt l k) + 1 else atLast l (atAt l k)), c + 1, atCo l k)

/-! 89.ac.lean.txt -/
/-! the reader of a query: an atom -/
set_option maxRecDepth 100000
set_option maxHeartbeats 4000000
theorem foF_in {t : List Int} : foF t = -1 ∨ (0 ≤ foF t ∧ foF t ≤ 12) := sorry
section ATM
variable {ω : AO} {d G : Nat} {Θ Θ1 Θ0 : Th} {L0 L : List It} {r s k c x : Int} {l w : List Int}
theorem u_X53_field {Q : Int → Th → Prop} {QX : String → Int → Th → Prop} {i j : Int} (hs9 : noTr ω) (hd : 16 ≤ d) (hO : OwS Θ (rdI r s k c :: L)) (hs : Str Θ s l) (hij : 0 ≤ i ∧ i < j ∧ j ≤ len l) (hl : len l ≤ 1000000) (hw : wide l = 0) (hG : (j - i + 5) + 6 ≤ (G : Int))
    (hQ : 0 ≤ foF (sub l i j) → ∀ Θ', OwT Θ (rdI r s k c :: L) Θ' (rdI r s k c :: L) → Q (foF (sub l i j)) Θ') (hX : foF (sub l i j) < 0 → ∀ q Θ', OwT Θ (rdI r s k c :: L) Θ' (rdI r s k c :: L) → FltO Θ' q 3 i → QX "MailWorks$Fault" q Θ') : x2_X53_field ω d G r i j Θ Q QX := sorry
/-- a leaf is made -/
theorem u_X58_init {Q : Th → Prop} {v a st fld : Int} {txt : List Int} {ph : Bool} (hd : 15 ≤ d) (hO : OwS Θ (obj v (62, [-1, -1, -1, -1, -1], 0, 0) :: L)) (hv : 0 ≤ v) (ha : obj a (atC fld st ph) ∈ L) (hs : Str Θ st txt) (hl : len txt ≤ 1000000) (hw : wide txt = 0) (ha0 : 0 ≤ a) (hG : 7 * len txt + 51 ≤ (G : Int))
    (hQ : ∀ Θ' sm rg e, OwT Θ (obj v (62, [-1, -1, -1, -1, -1], 0, 0) :: L) Θ' (obj v (62, [a, sm, rg, -1, e], 0, 0) :: (rgL rg fld txt ++ L)) → Str Θ' sm (txt.map lowB) → Str Θ' e [] → Q Θ') : w2_X58_init ω d G v a Θ Q := sorry
/-- one atom, at a place where no blank stands -/
theorem u_X53_atom {Q : Int → Th → Prop} {QX : String → Int → Th → Prop} {R : PRes} (hs9 : noTr ω) (hd : 30 ≤ d) (hO : OwS Θ (rdI r s k c :: L)) (hs : Str Θ s l) (hk : 0 ≤ k ∧ k ≤ len l) (hl : len l ≤ 100000) (hb : byt l) (hc : 0 ≤ c ∧ c ≤ 40) (hR : atF l (skQ l k) c = R) (hG : R.2.2.2.2 ≤ (G : Int))
    (hQ : R.1.1 = 0 → ∀ y Θ' LI, OwT Θ (rdI r s k c :: L) Θ' (rdI r s R.2.2.1 R.2.2.2.1 :: (LI ++ L)) → TrH 1 Θ' y R.2.1 LI → 0 ≤ y → (0 ≤ R.2.2.1 ∧ R.2.2.1 ≤ len l) → c + 1 ≤ R.2.2.2.1 ∧ R.2.2.2.1 ≤ 40 → Q y Θ') (hX : R.1.1 ≠ 0 → ∀ q Θ', OwT Θ (rdI r s k c :: L) Θ' L → FltO Θ' q R.1.1 R.1.2 → QX "MailWorks$Fault" q Θ') : x2_X53_atom ω d G r Θ Q QX := sorry
end ATM

/-! 89.ad.lean.txt -/
/-! the reader of a query: how trees are read (plain) -/
set_option maxRecDepth 100000
set_option maxHeartbeats 4000000
def nxS (sg : Int) : Int := if sg = -4 then -5 else -3
def prC (g : Int) (r : PRes) : PRes := (r.1, r.2.1, r.2.2.1, r.2.2.2.1, r.2.2.2.2 + g)
def prB (r : PRes) (f : Den → Int → Int → PRes) : PRes := if r.1.1 = 0 then prC r.2.2.2.2 (f r.2.1 r.2.2.1 r.2.2.2.1) else r
/-- behind an operator -/
def opK (l : List Int) (sg k : Int) : Int := if sg = -3 then (if wdF l k [97, 110, 100] = true then k + 3 else k) else if sg = -4 then k + 2 else k + 3
def ngR (n : Nat) (U : Den) (k c : Int) : PRes := if n % 2 = 1 then ((0, 0), dNo U, k, c, 2) else ((0, 0), U, k, c, 0)
def bkR (l : List Int) (U : Den) (k c : Int) : PRes := if sgQ l (skQ l k) 41 = true then ((0, 0), U, skQ l k + 1, c, 0) else pX (wrW l (skQ l k)) (skQ l k) 6
/-- modes: 0 neg, 1 bracket, -3 -4 -5 several (and, or, xor), 7 6 5 their loops -/
def qS (l : List Int) : Nat → Int → Int → Den → Nat → Int → Int → PRes
  | 0, _, _, _, _, _, _ => pX 99 0 0
  | N + 1, m, deep, T, n, k, c =>
    if m = 0 then (if wdF l (skQ l k) [110, 111, 116] = true then qS l N 0 deep T (n + 1) (skQ l k + 3) c else prB (if sgQ l (skQ l k) 40 = true then qS l N 1 deep T 0 (skQ l k) c else atF l (skQ l k) c) (ngR n))
    else if m = 1 then (if deep = 20 then pX 5 k 6 else prB (qS l N (-4) (deep + 1) T 0 (k + 1) c) (bkR l))
    else if m < 0 then prB (qS l N (if m = -3 then 0 else nxS m) deep T 0 k c) (fun U k2 c2 => if goF l (skQ l k2) m = true then prC (3 + adK 0 1) (qS l N (m + 10) deep U 1 (skQ l k2) c2) else ((0, 0), U, skQ l k2, c2, 0))
    else if goF l (skQ l k) (m - 10) = true then prB (qS l N (if m - 10 = -3 then 0 else nxS (m - 10)) deep T 0 (opK l (m - 10) (skQ l k)) c) (fun U k2 c2 => prC (adK 0 (n + 1) - adK 0 n) (qS l N m deep (cmb (m - 10) T U) (n + 1) k2 c2))
    else ((0, 0), T, skQ l k, c, 0)
section QSP
variable {l : List Int} {N n : Nat} {m deep k c : Int} {T : Den} {r : PRes} {f : Den → Int → Int → PRes}
theorem qS_0 : qS l (N + 1) 0 deep T n k c = if wdF l (skQ l k) [110, 111, 116] = true then qS l N 0 deep T (n + 1) (skQ l k + 3) c else prB (if sgQ l (skQ l k) 40 = true then qS l N 1 deep T 0 (skQ l k) c else atF l (skQ l k) c) (ngR n) := by
  rw [qS, if_pos rfl]
theorem qS_1 : qS l (N + 1) 1 deep T n k c = if deep = 20 then pX 5 k 6 else prB (qS l N (-4) (deep + 1) T 0 (k + 1) c) (bkR l) := sorry
theorem qS_m (h : m < 0) : qS l (N + 1) m deep T n k c = prB (qS l N (if m = -3 then 0 else nxS m) deep T 0 k c) (fun U k2 c2 => if goF l (skQ l k2) m = true then prC (3 + adK 0 1) (qS l N (m + 10) deep U 1 (skQ l k2) c2) else ((0, 0), U, skQ l k2, c2, 0)) := sorry
theorem qS_L (h : 1 < m) : qS l (N + 1) m deep T n k c = if goF l (skQ l k) (m - 10) = true then prB (qS l N (if m - 10 = -3 then 0 else nxS (m - 10)) deep T 0 (opK l (m - 10) (skQ l k)) c) (fun U k2 c2 => prC (adK 0 (n + 1) - adK 0 n) (qS l N m deep (cmb (m - 10) T U) (n + 1) k2 c2)) else ((0, 0), T, skQ l k, c, 0) := sorry
theorem prB_ok (h : r.1.1 = 0) : prB r f = prC r.2.2.2.2 (f r.2.1 r.2.2.1 r.2.2.2.1) := if_pos h
theorem prB_no (h : ¬ r.1.1 = 0) : prB r f = r := if_neg h
theorem prB_nn (hr : 0 ≤ r.2.2.2.2) (hf : ∀ U k c, 0 ≤ (f U k c).2.2.2.2) : 0 ≤ (prB r f).2.2.2.2 ∧ r.2.2.2.2 ≤ (prB r f).2.2.2.2 := sorry
theorem atF_nn : 0 ≤ (atF l k c).2.2.2.2 := sorry
theorem ngR_nn {U : Den} : 0 ≤ (ngR n U k c).2.2.2.2 := sorry
theorem bkR_nn {U : Den} : 0 ≤ (bkR l U k c).2.2.2.2 := sorry
theorem qS_nn : ∀ (N : Nat) (m deep : Int) (T : Den) (n : Nat) (k c : Int), 0 ≤ (qS l N m deep T n k c).2.2.2.2 := sorry
end QSP
/-- how deep frames lie -/
def dq (m deep : Int) : Int := 6 * (20 - deep) + 44 + (if m = 0 then 0 else if m = -3 ∨ m = 7 then 1 else if m = -5 ∨ m = 5 then 2 else if m = -4 ∨ m = 6 then 3 else -1)

/-! 89.ae.lean.txt -/
/-! the reader of a query: trees -/
set_option maxRecDepth 100000
set_option maxHeartbeats 4000000
theorem OwT.rgt {Θ Θ1 : Th} {L M X : List It} (h : OwT Θ L Θ1 (M ++ X)) : OwT Θ L Θ1 X := (h.perm List.perm_append_comm).lft
theorem TrH.kd {hh : Int} {Θ : Th} {y : Int} {T : Den} {LI X : List It} (h : TrH hh Θ y T LI) (hO : OwS Θ (LI ++ X)) : kd Θ y = 62 ∨ kd Θ y = 63 ∨ kd Θ y = 64 := sorry
section RDT
variable {ω : AO} {d G : Nat} {Θ Θ1 Θ0 : Th} {L0 L : List It} {r s k c x : Int} {l w : List Int}
theorem u_X60_init {Q : Th → Prop} {v sg : Int} (hd : 8 ≤ d) (hO : OwS Θ (obj v (64, [0, -1], 0, 0) :: L)) (hv : 0 ≤ v) (hs : inI sg) (hG : 1 ≤ G)
    (hQ : ∀ Θ' li, OwT Θ (obj v (64, [0, -1], 0, 0) :: L) Θ' (obj v (64, [sg, li], 0, 0) :: lsI li [] 0 :: L) → Q Θ') : w2_X60_init ω d G v sg Θ Q := sorry
/-- what holds at the end of a reading -/
def RdQ (Θ0 : Th) (L0 : List It) (r s : Int) (l : List Int) (L : List It) (cl h : Int) (R : PRes) (Q : Int → Th → Prop) : Prop :=
  R.1.1 = 0 → ∀ y Θ' LI, OwT Θ0 L0 Θ' (rdI r s R.2.2.1 R.2.2.2.1 :: (LI ++ L)) → TrH h Θ' y R.2.1 LI → 0 ≤ y → (0 ≤ R.2.2.1 ∧ R.2.2.1 ≤ len l) → cl ≤ R.2.2.2.1 ∧ R.2.2.2.1 ≤ 40 → Q y Θ'
def RdX (Θ0 : Th) (L0 : List It) (L : List It) (R : PRes) (QX : String → Int → Th → Prop) : Prop := R.1.1 ≠ 0 → ∀ q Θ', OwT Θ0 L0 Θ' L → FltO Θ' q R.1.1 R.1.2 → QX "MailWorks$Fault" q Θ'
/-- all four modes at one height -/
def RdP (ω : AO) (r s : Int) (l : List Int) (N : Nat) : Prop :=
  ∀ (deep : Int) (T : Den) (k c : Int) (d G : Nat) (Θ Θ0 : Th) (L L0 : List It) (Q : Int → Th → Prop) (QX : String → Int → Th → Prop) (R : PRes) (h : Int), (0 ≤ deep ∧ deep ≤ 20) → (0 ≤ k ∧ k ≤ len l) → (0 ≤ c ∧ c ≤ 40) → R.1.1 ≠ 99 → Str Θ s l → OwS Θ0 L0 → RdQ Θ0 L0 r s l L (c + 1) h R Q → RdX Θ0 L0 L R QX →
    (∀ m, m = -3 ∨ m = -4 ∨ m = -5 → ∀ n, qS l N m deep T n k c = R → dq m deep ≤ (d : Int) → dq m deep ≤ h → R.2.2.2.2 ≤ (G : Int) → OwT Θ0 L0 Θ (rdI r s k c :: L) → x2_X53_several ω d G r deep m Θ Q QX) ∧
    (∀ (n g : Nat), qS l N 0 deep T n k c = R → dq 0 deep ≤ (d : Int) → dq 0 deep ≤ h → (g : Int) + R.2.2.2.2 ≤ (G : Int) → OwT Θ0 L0 Θ (rdI r s k c :: L) → (n : Int) + len l ≤ 1000000 + k → WX2_X53_neg_2 ω d G r deep (n : Int) g Θ Q QX) ∧
    (∀ n, qS l N 1 deep T n k c = R → dq 1 deep ≤ (d : Int) → dq 1 deep ≤ h → R.2.2.2.2 ≤ (G : Int) → OwT Θ0 L0 Θ (rdI r s k c :: L) → k < len l → x2_X53_bracket ω d G r deep Θ Q QX) ∧
    (∀ m, m = 7 ∨ m = 6 ∨ m = 5 → RdQ Θ0 L0 r s l L c h R Q → ∀ (n : Nat) (l4 li : Int) (rs : List Int) (C : List (Den × List It)) (g : Nat), qS l N m deep T n k c = R → dq m deep ≤ (d : Int) → dq m deep ≤ h → (g : Int) + R.2.2.2.2 ≤ (G : Int) → OwT Θ0 L0 Θ (rdI r s k c :: ((obj l4 (64, [m - 10, li], 0, 0) :: lsI li rs (adK 0 n) :: C.flatMap (fun y => y.2)) ++ L)) → all2 (fun x (y : Den × List It) => TrH (h - 1) Θ x y.1 y.2) rs C → C ≠ [] → C.length = n → (n : Int) ≤ c → fdD (m - 10) C = T → 0 ≤ l4 → WX2_X53_several_63 ω d G r deep (m - 10) l4 g Θ Q QX)
theorem sgQ_lt {l : List Int} {k c : Int} (h : sgQ l k c = true) : k < len l := sorry
theorem wdF_lt {l : List Int} {k : Int} {w : List Int} (h : wdF l k w = true) (k0 : 0 ≤ k) (k1 : k ≤ len l) : k + len w ≤ len l := sorry
theorem goF_lt {l : List Int} {k sg : Int} (h : goF l k sg = true) (k0 : 0 ≤ k) (k1 : k ≤ len l) : (sg = -4 → k + 2 ≤ len l) ∧ (sg = -5 → k + 3 ≤ len l) ∧ (sg ≠ -4 → sg ≠ -5 → k < len l) := sorry
theorem b1F {b : Bool} (h : ¬ (if b = true then (1 : Int) else 0) = 0) : b = true := Classical.byContradiction fun y => h (by rw [if_neg y])
theorem b0F {b : Bool} (h : (if b = true then (1 : Int) else 0) = 0) : b = false := sorry
theorem rdP (hs9 : noTr ω) (hl : len l ≤ 100000) (hb : byt l) : ∀ N : Nat, RdP ω r s l N := sorry
end RDT

/-! 89.ba.lean.txt -/
/-! segments -/
set_option maxRecDepth 100000
def w2_X58_hasTag (ω : AO) (d G : Nat) (l0 l1 : Int) (Θ : Th) (Q : Int → Th → Prop) : Prop := Hid (∀ S, bel S → R2 ω S Θ → Ctr ω yX58_hasTag cX58_hasTag 3 (some .boolean) d G [(2, l0), (2, l1)] S (eZ S (q2 ω Θ Q)))
def w2_X58_isIn (ω : AO) (d G : Nat) (l0 l1 l3 : Int) (Θ : Th) (Q : Int → Th → Prop) : Prop := Hid (∀ S, bel S → R2 ω S Θ → Ctr ω yX58_isIn cX58_isIn 9 (some .boolean) d G [(2, l0), (1, l1), (0, l3)] S (eZ S (q2 ω Θ Q)))
def w2_X58_fits (ω : AO) (d G : Nat) (l0 l1 : Int) (Θ : Th) (Q : Int → Th → Prop) : Prop := Hid (∀ S, bel S → R2 ω S Θ → Ctr ω yX58_fits cX58_fits 2 (some .boolean) d G [(2, l0), (2, l1)] S (eZ S (q2 ω Θ Q)))
def w2_X58_has (ω : AO) (d G : Nat) (l0 l1 l2 : Int) (Θ : Th) (Q : Int → Th → Prop) : Prop := Hid (∀ S, bel S → R2 ω S Θ → Ctr ω yX58_has cX58_has 4 (some .boolean) d G [(2, l0), (2, l1), (2, l2)] S (eZ S (q2 ω Θ Q)))
def w2_X58_cut (ω : AO) (d G : Nat) (l0 l1 : Int) (Θ : Th) (Q : Th → Prop) : Prop := Hid (∀ S, bel S → R2 ω S Θ → Ctr ω yX58_cut cX58_cut 6 none d G [(2, l0), (2, l1)] S (eU S (q2U ω Θ Q)))
def w2_X58_words (ω : AO) (d G : Nat) (l0 l1 l2 l3 : Int) (Θ : Th) (Q : Th → Prop) : Prop := Hid (∀ S, bel S → R2 ω S Θ → Ctr ω yX58_words cX58_words 4 none d G [(2, l0), (2, l1), (0, l2), (2, l3)] S (eU S (q2U ω Θ Q)))
def w2_X58_ask (ω : AO) (d G : Nat) (l0 l1 : Int) (Θ : Th) (Q : Int → Th → Prop) : Prop := Hid (∀ S, bel S → R2 ω S Θ → Ctr ω yX58_ask cX58_ask 6 (some (.object "MailWorks$Bits")) d G [(2, l0), (2, l1)] S (eA S (q2 ω Θ Q)))
def w2_X59_ask (ω : AO) (d G : Nat) (l0 l1 : Int) (Θ : Th) (Q : Int → Th → Prop) : Prop := Hid (∀ S, bel S → R2 ω S Θ → Ctr ω yX59_ask cX59_ask 3 (some (.object "MailWorks$Bits")) d G [(2, l0), (2, l1)] S (eA S (q2 ω Θ Q)))
def w2_X60_ask (ω : AO) (d G : Nat) (l0 l1 : Int) (Θ : Th) (Q : Int → Th → Prop) : Prop := Hid (∀ S, bel S → R2 ω S Θ → Ctr ω yX60_ask cX60_ask 5 (some (.object "MailWorks$Bits")) d G [(2, l0), (2, l1)] S (eA S (q2 ω Θ Q)))
theorem ln_X58_254 : NLk RX58 254 yX1_flagTag cX1_flagTag 3 (some .int) 1 := sorry
theorem lm_X58_267 : VLk RX58 267 29 yX16_flagTags cX16_flagTags 4 (some .int) 0 := sorry
theorem lr_X58_258_29 : FLkR RX58 258 29 5 (.object "MailWorks$Sorted") := sorry
theorem lm_X58_262 : VLk RX58 262 30 yX17_containsKey cX17_containsKey 2 (some .boolean) 1 := sorry
theorem lr_X58_42_62 : FLkR RX58 42 62 2 (.object "MailWorks$Range") := sorry
theorem lr_X58_270_61 : FLkR RX58 270 61 1 .int := sorry
theorem lr_X58_278_61 : FLkR RX58 278 61 2 .int := sorry
theorem lr_X58_17_62 : FLkR RX58 17 62 0 (.object "MailWorks$Atom") := sorry
theorem lr_X58_161_60 : FLkR RX58 161 60 2 .boolean := sorry
theorem lm_X58_251 : SLk RX58 251 yX12_fits cX12_fits 2 (some .boolean) 2 := sorry
theorem lm_X58_199 : VLk RX58 199 2 yJ2_equals cJ2_equals 3 (some .boolean) 1 := sorry
theorem lr_X58_204_29 : FLkR RX58 204 29 3 (.object "MailWorks$Content") := sorry
theorem lr_X58_208_32 : FLkR RX58 208 32 0 (.object "MailWorks$Parts") := sorry
theorem lr_X58_32_62 : FLkR RX58 32 62 1 (.object "java/lang/String") := sorry
theorem lm_X58_214 : VLk RX58 214 33 yX20_hasType cX20_hasType 4 (some .boolean) 1 := sorry
theorem lm_X58_175 : SLk RX58 175 yX58_hasTag cX58_hasTag 3 (some .boolean) 2 := sorry
theorem lr_X58_248_29 : FLkR RX58 248 29 1 (.object "java/lang/String") := sorry
theorem lr_X58_219_32 : FLkR RX58 219 32 11 .long := sorry
theorem lm_X58_229 : SLk RX58 229 yJ4_floorDiv cJ4_floorDiv 6 (some .long) 2 := sorry
theorem lg_X58_235_15 : FLkN RX58 235 15 16 .int false := sorry
theorem lm_X58_238 : VLk RX58 238 62 yX58_isIn cX58_isIn 9 (some .boolean) 2 := sorry
theorem lr_X58_242_29 : FLkR RX58 242 29 2 (.object "java/lang/String") := sorry
theorem lm_X58_245 : VLk RX58 245 2 yJ2_length cJ2_length 1 (some .int) 0 := sorry
theorem lr_X58_179_29 : FLkR RX58 179 29 4 (.object "java/util/ArrayList") := sorry
theorem lm_X58_56 : VLk RX58 56 3 yJ7_size cJ7_size 1 (some .int) 0 := sorry
theorem lm_X58_62 : VLk RX58 62 3 yJ7_get cJ7_get 2 (some (.object "java/lang/Object")) 1 := sorry
theorem lm_X58_184 : VLk RX58 184 31 yX18_file cX18_file 1 (some (.object "MailWorks$Stored")) 0 := sorry
theorem lr_X58_188_26 : FLkR RX58 188 26 0 (.object "java/lang/String") := sorry
theorem lm_X58_193 : VLk RX58 193 62 yX58_fits cX58_fits 2 (some .boolean) 1 := sorry
theorem lg_X58_80_15 : FLkN RX58 80 15 4 (.object "MailWorks$Tools") true := sorry
theorem lm_X58_84 : VLk RX58 84 16 yX2_query cX2_query 3 (some (.object "MailWorks$Text")) 1 := sorry
theorem lm_X58_90 : ILk RX58 90 yJ7_init cJ7_init 1 0 := sorry
theorem lf_X58_91_62 : FLk RX58 91 62 3 (.object "java/util/ArrayList") false := sorry
theorem lm_X58_94 : VLk RX58 94 60 yX55_star cX55_star 1 (some .int) 0 := sorry
theorem lr_X58_105_16 : FLkR RX58 105 16 1 (.object "MailWorks$Stemme\x72") := sorry
theorem lm_X58_109 : ILk RX58 109 yX45_init cX45_init 3 2 := sorry
theorem lm_X58_112 : VLk RX58 112 50 yX45_add cX45_add 5 none 2 := sorry
theorem ln_X58_97 : NLk RX58 97 yX19_smallOf cX19_smallOf 3 (some (.object "java/lang/String")) 1 := sorry
theorem lr_X58_116_50 : FLkR RX58 116 50 0 (.object "java/util/ArrayList") := sorry
theorem lm_X58_119 : VLk RX58 119 51 yX46_isAddress cX46_isAddress 1 (some .boolean) 0 := sorry
theorem lr_X58_91_62 : FLkR RX58 91 62 3 (.object "java/util/ArrayList") := sorry
theorem lm_X58_122 : VLk RX58 122 51 yX46_text cX46_text 1 (some (.object "java/lang/String")) 0 := sorry
theorem lm_X58_125 : VLk RX58 125 3 yJ7_add cJ7_add 2 (some .boolean) 1 := sorry
theorem lm_X58_128 : VLk RX58 128 51 yX46_stem cX46_stem 1 (some (.object "java/lang/String")) 0 := sorry
theorem lm_X58_130 : VLk RX58 130 62 yX58_cut cX58_cut 6 none 1 := sorry
theorem lg_X58_134_15 : FLkN RX58 134 15 7 (.object "MailWorks$Index") true := sorry
theorem lr_X58_11_62 : FLkR RX58 11 62 4 (.object "java/lang/String") := sorry
theorem lm_X58_165 : VLk RX58 165 21 yX7_stem cX7_stem 4 none 3 := sorry
theorem lm_X58_140 : ILk RX58 140 yJ1_init cJ1_init 1 0 := sorry
theorem lm_X58_143 : VLk RX58 143 1 yJ1_append_3 cJ1_append_3 2 (some (.object "java/lang/StringBuilde\x72")) 1 := sorry
theorem lm_X58_147 : VLk RX58 147 1 yJ1_append_2 cJ1_append_2 2 (some (.object "java/lang/StringBuilde\x72")) 1 := sorry
theorem lm_X58_150 : VLk RX58 150 1 yJ1_toString cJ1_toString 1 (some (.object "java/lang/String")) 0 := sorry
theorem lm_X58_153 : VLk RX58 153 21 yX7_matching cX7_matching 9 none 3 := sorry
theorem lm_X58_168 : VLk RX58 168 3 yJ7_isEmpty cJ7_isEmpty 1 (some .boolean) 0 := sorry
theorem lm_X58_171 : VLk RX58 171 21 yX7_phrase cX7_phrase 8 none 3 := sorry
theorem ln_X58_47 : NLk RX58 47 yX8_init cX8_init 1 none 0 := sorry
theorem lg_X58_52_15 : FLkN RX58 52 15 6 (.object "java/util/ArrayList") true := sorry
theorem lm_X58_68 : VLk RX58 68 29 yX16_isThere cX16_isThere 1 (some .boolean) 0 := sorry
theorem lm_X58_72 : VLk RX58 72 62 yX58_has cX58_has 4 (some .boolean) 2 := sorry
theorem lm_X58_76 : VLk RX58 76 22 yX8_set cX8_set 2 none 1 := sorry
theorem lm_X58_48 : VLk RX58 48 62 yX58_words cX58_words 4 none 3 := sorry
theorem ln_X59_13 : NLk RX59 13 yX1_there cX1_there 3 (some (.object "MailWorks$Bits")) 0 := sorry
theorem lr_X59_7_63 : FLkR RX59 7 63 0 (.object "MailWorks$Tree") := sorry
theorem lu_X59_19_62 : ULk RX59 19 62 ⟨"MailWorks$Tree", "ask", "(LMailWorks;)LMailWorks$Bits;"⟩ yX58_ask cX58_ask 6 (some (.object "MailWorks$Bits")) 1 := sorry
theorem lu_X59_19_63 : ULk RX59 19 63 ⟨"MailWorks$Tree", "ask", "(LMailWorks;)LMailWorks$Bits;"⟩ yX59_ask cX59_ask 3 (some (.object "MailWorks$Bits")) 1 := sorry
theorem lu_X59_19_64 : ULk RX59 19 64 ⟨"MailWorks$Tree", "ask", "(LMailWorks;)LMailWorks$Bits;"⟩ yX60_ask cX60_ask 5 (some (.object "MailWorks$Bits")) 1 := sorry
theorem lm_X59_23 : VLk RX59 23 22 yX8_andNot cX8_andNot 3 none 1 := sorry
theorem lr_X60_12_64 : FLkR RX60 12 64 1 (.object "java/util/ArrayList") := sorry
theorem lm_X60_22 : VLk RX60 22 3 yJ7_get cJ7_get 2 (some (.object "java/lang/Object")) 1 := sorry
theorem lu_X60_26_62 : ULk RX60 26 62 ⟨"MailWorks$Tree", "ask", "(LMailWorks;)LMailWorks$Bits;"⟩ yX58_ask cX58_ask 6 (some (.object "MailWorks$Bits")) 1 := sorry
theorem lu_X60_26_63 : ULk RX60 26 63 ⟨"MailWorks$Tree", "ask", "(LMailWorks;)LMailWorks$Bits;"⟩ yX59_ask cX59_ask 3 (some (.object "MailWorks$Bits")) 1 := sorry
theorem lu_X60_26_64 : ULk RX60 26 64 ⟨"MailWorks$Tree", "ask", "(LMailWorks;)LMailWorks$Bits;"⟩ yX60_ask cX60_ask 5 (some (.object "MailWorks$Bits")) 1 := sorry
theorem lm_X60_30 : VLk RX60 30 3 yJ7_size cJ7_size 1 (some .int) 0 := sorry
theorem lr_X60_18_64 : FLkR RX60 18 64 0 .int := sorry
theorem lm_X60_43 : VLk RX60 43 22 yX8_xor cX8_xor 3 none 1 := sorry
theorem lm_X60_40 : VLk RX60 40 22 yX8_and cX8_and 3 none 1 := sorry
theorem lm_X60_34 : VLk RX60 34 22 yX8_or cX8_or 3 none 1 := sorry
set_option maxHeartbeats 4000000 in
theorem s2_X58_hasTag {ω : AO} {d G : Nat} {l0 l1 : Int} {Θ : Th} {Q : Int → Th → Prop} (hB : (1 ≤ d) ∧ ∃ G1 : Nat, (0 + G1 ≤ G) ∧ w2_X1_flagTag ω (d - 1) G1 l1 Θ (fun x1 Θ1 => ∀ (L1 : Le Θ Θ1) (r1 : -2147483648 ≤ x1 ∧ x1 < 2147483648), (∀ (c6 : 0 ≤ x1), (kd Θ1 l0 = 29) ∧ ∃ G21 : Nat, (0 + G1 + G21 ≤ G) ∧ w2_X16_flagTags ω (d - 1) G21 l0 Θ1 (fun x21 Θ21 => ∀ (L21 : Le Θ1 Θ21) (r21 : -2147483648 ≤ x21 ∧ x21 < 2147483648), (∀ (c29 : ¬ ((shrI x21 x1) % 2) = 1), (0 + G1 + G21 ≤ G) ∧ Q 0 Θ21) ∧ (∀ (c29 : ((shrI x21 x1) % 2) = 1), (0 + G1 + G21 ≤ G) ∧ Q 1 Θ21))) ∧ (∀ (c6 : x1 < 0), (kd Θ1 l0 = 29) ∧ ∀ (v10 : Int) (e10 : v10 = gt (vv Θ1 l0) 5) (r10 : -1 ≤ v10), (kd Θ1 v10 = 30) ∧ ∃ G14 : Nat, (0 + G1 + G14 ≤ G) ∧ w2_X17_containsKey ω (d - 1) G14 v10 l1 Θ1 (fun x14 Θ14 => ∀ (L14 : Le Θ1 Θ14) (r14 : x14 = 0 ∨ x14 = 1), (0 + G1 + G14 ≤ G) ∧ Q x14 Θ14)))) : w2_X58_hasTag ω d G l0 l1 Θ Q := sorry
def W2_X58_isIn_37 (ω : AO) (d G : Nat) (l1 l3 l4 : Int) (g : Nat) (Θ : Th) (Q : Int → Th → Prop) : Prop := Hid (SJ2 ω yX58_isIn cX58_isIn 9 (some .boolean) d G (fun Sz Θz => (eZ Sz (q2 ω Θz Q))) 37 [vN, (1, l1), vN, (0, l3), (2, l4), vN, vN, vN, vN] [] g Θ)
def W2_X58_isIn_43 (ω : AO) (d G : Nat) (l1 l3 l4 s0 : Int) (g : Nat) (Θ : Th) (Q : Int → Th → Prop) : Prop := Hid (SJ2 ω yX58_isIn cX58_isIn 9 (some .boolean) d G (fun Sz Θz => (eZ Sz (q2 ω Θz Q))) 43 [vN, (1, l1), vN, (0, l3), (2, l4), vN, vN, vN, vN] [(1, s0)] g Θ)
def W2_X58_isIn_71 (ω : AO) (d G : Nat) (l1 l4 l5 s0 : Int) (g : Nat) (Θ : Th) (Q : Int → Th → Prop) : Prop := Hid (SJ2 ω yX58_isIn cX58_isIn 9 (some .boolean) d G (fun Sz Θz => (eZ Sz (q2 ω Θz Q))) 71 [vN, (1, l1), vN, vN, (2, l4), (1, l5), vN, vN, vN] [(1, s0)] g Θ)
def W2_X58_isIn_91 (ω : AO) (d G : Nat) (l1 l4 l7 : Int) (g : Nat) (Θ : Th) (Q : Int → Th → Prop) : Prop := Hid (SJ2 ω yX58_isIn cX58_isIn 9 (some .boolean) d G (fun Sz Θz => (eZ Sz (q2 ω Θz Q))) 91 [vN, (1, l1), vN, vN, (2, l4), vN, vN, (1, l7), vN] [] g Θ)
set_option maxHeartbeats 4000000 in
theorem s2_X58_isIn {ω : AO} {d G : Nat} {l0 l1 l3 : Int} {Θ : Th} {Q : Int → Th → Prop} (hB : (kd Θ l0 = 62) ∧ ∀ (v1 : Int) (e1 : v1 = gt (vv Θ l0) 2) (r1 : -1 ≤ v1), (kd Θ v1 = 61) ∧ ∀ (v8 : Int) (e8 : v8 = gt (vv Θ v1) 1) (r8 : -2147483648 ≤ v8 ∧ v8 < 2147483648), (∀ (c11 : 0 ≤ v8), W2_X58_isIn_37 ω d G l1 l3 v1 (0) Θ Q) ∧ (∀ (c11 : v8 < 0), ∀ (v16 : Int) (e16 : v16 = gt (vv Θ v1) 1) (r16 : -2147483648 ≤ v16 ∧ v16 < 2147483648), (∀ (c22 : v16 = (-2147483648)), W2_X58_isIn_37 ω d G l1 l3 v1 (0) Θ Q) ∧ (∀ (c22 : ¬ v16 = (-2147483648)), (-2147483648 ≤ l3 ∧ l3 < 2147483648) ∧ ∀ (v29 : Int) (e29 : v29 = gt (vv Θ v1) 1) (r29 : -2147483648 ≤ v29 ∧ v29 < 2147483648), W2_X58_isIn_43 ω d G l1 l3 v1 ((l3 + v29)) (0) Θ Q))) : w2_X58_isIn ω d G l0 l1 l3 Θ Q := sorry
set_option maxHeartbeats 4000000 in
theorem s2_X58_isIn_37 {ω : AO} {d G : Nat} {l1 l3 l4 : Int} {g : Nat} {Θ : Th} {Q : Int → Th → Prop} (hB : (kd Θ l4 = 61) ∧ ∀ (v39 : Int) (e39 : v39 = gt (vv Θ l4) 1) (r39 : -2147483648 ≤ v39 ∧ v39 < 2147483648), W2_X58_isIn_43 ω d G l1 l3 l4 v39 (g) Θ Q) : W2_X58_isIn_37 ω d G l1 l3 l4 g Θ Q := sorry
set_option maxHeartbeats 4000000 in
theorem s2_X58_isIn_43 {ω : AO} {d G : Nat} {l1 l3 l4 s0 : Int} {g : Nat} {Θ : Th} {Q : Int → Th → Prop} (hB : (kd Θ l4 = 61) ∧ ∀ (v47 : Int) (e47 : v47 = gt (vv Θ l4) 2) (r47 : -2147483648 ≤ v47 ∧ v47 < 2147483648), (∀ (c50 : 0 ≤ v47), ∀ (v67 : Int) (e67 : v67 = gt (vv Θ l4) 2) (r67 : -2147483648 ≤ v67 ∧ v67 < 2147483648), W2_X58_isIn_71 ω d G l1 l4 s0 v67 (g) Θ Q) ∧ (∀ (c50 : v47 < 0), (-2147483648 ≤ l3 ∧ l3 < 2147483648) ∧ ∀ (v57 : Int) (e57 : v57 = gt (vv Θ l4) 2) (r57 : -2147483648 ≤ v57 ∧ v57 < 2147483648), W2_X58_isIn_71 ω d G l1 l4 s0 ((l3 + v57)) (g) Θ Q)) : W2_X58_isIn_43 ω d G l1 l3 l4 s0 g Θ Q := sorry
set_option maxHeartbeats 4000000 in
theorem s2_X58_isIn_71 {ω : AO} {d G : Nat} {l1 l4 l5 s0 : Int} {g : Nat} {Θ : Th} {Q : Int → Th → Prop} (hB : (kd Θ l4 = 61) ∧ ∀ (v75 : Int) (e75 : v75 = gt (vv Θ l4) 1) (r75 : -2147483648 ≤ v75 ∧ v75 < 2147483648), (∀ (c81 : v75 = (-2147483648)), W2_X58_isIn_91 ω d G l1 l4 s0 (g) Θ Q) ∧ (∀ (c81 : ¬ v75 = (-2147483648)), (-9223372036854775808 ≤ l1 ∧ l1 < 9223372036854775808) ∧ (-9223372036854775808 ≤ l5 ∧ l5 < 9223372036854775808) ∧ (∀ (c88 : l1 < l5), (g ≤ G) ∧ Q 0 Θ) ∧ (∀ (c88 : l5 ≤ l1), W2_X58_isIn_91 ω d G l1 l4 s0 (g) Θ Q))) : W2_X58_isIn_71 ω d G l1 l4 l5 s0 g Θ Q := sorry
set_option maxHeartbeats 4000000 in
theorem s2_X58_isIn_91 {ω : AO} {d G : Nat} {l1 l4 l7 : Int} {g : Nat} {Θ : Th} {Q : Int → Th → Prop} (hB : (kd Θ l4 = 61) ∧ ∀ (v93 : Int) (e93 : v93 = gt (vv Θ l4) 2) (r93 : -2147483648 ≤ v93 ∧ v93 < 2147483648), (∀ (c99 : v93 = 2147483647), (g ≤ G) ∧ Q 1 Θ) ∧ (∀ (c99 : ¬ v93 = 2147483647), (-9223372036854775808 ≤ l1 ∧ l1 < 9223372036854775808) ∧ (-9223372036854775808 ≤ l7 ∧ l7 < 9223372036854775808) ∧ (∀ (c106 : l7 < l1), (g ≤ G) ∧ Q 0 Θ) ∧ (∀ (c106 : l1 ≤ l7), (g ≤ G) ∧ Q 1 Θ))) : W2_X58_isIn_91 ω d G l1 l4 l7 g Θ Q := sorry
set_option maxHeartbeats 4000000 in
theorem s2_X58_fits {ω : AO} {d G : Nat} {l0 l1 : Int} {Θ : Th} {Q : Int → Th → Prop} (hB : (kd Θ l0 = 62) ∧ ∀ (v1 : Int) (e1 : v1 = gt (vv Θ l0) 0) (r1 : -1 ≤ v1), (kd Θ v1 = 60) ∧ ∀ (v4 : Int) (e4 : v4 = gt (vv Θ v1) 2) (r4 : 0 ≤ v4 ∧ v4 < 2), (∀ (c7 : v4 = 0), ∀ (v25 : Int) (e25 : v25 = gt (vv Θ l0) 0) (r25 : -1 ≤ v25), (kd Θ v25 = 60) ∧ ∀ (v28 : Int) (e28 : v28 = gt (vv Θ v25) 1) (r28 : -1 ≤ v28), (1 ≤ d) ∧ (kd Θ v28 = 2) ∧ (kd Θ l1 = 2) ∧ (10 ≤ d) ∧ ∀ (x32 : Int) (e32 : x32 = if fitF (vv Θ v28) (vv Θ l1) 0 then 1 else 0) (r32 : x32 = 0 ∨ x32 = 1), Q x32 Θ) ∧ (∀ (c7 : ¬ v4 = 0), ∀ (v12 : Int) (e12 : v12 = gt (vv Θ l0) 0) (r12 : -1 ≤ v12), (kd Θ v12 = 60) ∧ ∀ (v15 : Int) (e15 : v15 = gt (vv Θ v12) 1) (r15 : -1 ≤ v15), (1 ≤ d) ∧ (kd Θ l1 = 2) ∧ (kd Θ v15 = 2) ∧ (2 ≤ d) ∧ ∀ (x18 : Int) (e18 : x18 = if vv Θ l1 = vv Θ v15 then 1 else 0) (r18 : x18 = 0 ∨ x18 = 1), Q x18 Θ)) : w2_X58_fits ω d G l0 l1 Θ Q := sorry
def W2_X58_has_66 (ω : AO) (d G : Nat) (l0 l2 l3 : Int) (g : Nat) (Θ : Th) (Q : Int → Th → Prop) : Prop := Hid (SJ2 ω yX58_has cX58_has 4 (some .boolean) d G (fun Sz Θz => (eZ Sz (q2 ω Θz Q))) 66 [(2, l0), vN, (2, l2), (0, l3)] [] g Θ)
set_option maxHeartbeats 4000000 in
theorem s2_X58_has {ω : AO} {d G : Nat} {l0 l1 l2 : Int} {Θ : Th} {Q : Int → Th → Prop} (hB : (kd Θ l0 = 62) ∧ ∀ (v1 : Int) (e1 : v1 = gt (vv Θ l0) 0) (r1 : -1 ≤ v1), (kd Θ v1 = 60) ∧ ∀ (v4 : Int) (e4 : v4 = gt (vv Θ v1) 0) (r4 : -2147483648 ≤ v4 ∧ v4 < 2147483648), (∀ (c7 : v4 < 5 ∨ 12 < v4), (kd Θ l2 = 29) ∧ ∀ (v227 : Int) (e227 : v227 = gt (vv Θ l2) 3) (r227 : -1 ≤ v227), (kd Θ v227 = 32) ∧ ∀ (v230 : Int) (e230 : v230 = gt (vv Θ v227) 0) (r230 : -1 ≤ v230), ∀ (v234 : Int) (e234 : v234 = gt (vv Θ l0) 1) (r234 : -1 ≤ v234), (1 ≤ d) ∧ (kd Θ v230 = 33) ∧ ∃ G237 : Nat, (0 + G237 ≤ G) ∧ w2_X20_hasType ω (d - 1) G237 v230 v234 Θ (fun x237 Θ237 => ∀ (L237 : Le Θ Θ237) (r237 : x237 = 0 ∨ x237 = 1), (0 + G237 ≤ G) ∧ Q x237 Θ237)) ∧ (∀ (c7 : v4 = 5), ∀ (v54 : Int) (e54 : v54 = gt (vv Θ l0) 0) (r54 : -1 ≤ v54), (kd Θ v54 = 60) ∧ ∀ (v57 : Int) (e57 : v57 = gt (vv Θ v54) 1) (r57 : -1 ≤ v57), (1 ≤ d) ∧ ∃ G60 : Nat, (0 + G60 ≤ G) ∧ w2_X58_hasTag ω (d - 1) G60 l2 v57 Θ (fun x60 Θ60 => ∀ (L60 : Le Θ Θ60) (r60 : x60 = 0 ∨ x60 = 1), (0 + G60 ≤ G) ∧ Q x60 Θ60)) ∧ (∀ (c7 : v4 = 6), (kd Θ l2 = 29) ∧ ∀ (v212 : Int) (e212 : v212 = gt (vv Θ l2) 1) (r212 : -1 ≤ v212), ∀ (v216 : Int) (e216 : v216 = gt (vv Θ l0) 0) (r216 : -1 ≤ v216), (kd Θ v216 = 60) ∧ ∀ (v219 : Int) (e219 : v219 = gt (vv Θ v216) 1) (r219 : -1 ≤ v219), (1 ≤ d) ∧ (kd Θ v212 = 2) ∧ (kd Θ v219 = 2) ∧ (2 ≤ d) ∧ ∀ (x222 : Int) (e222 : x222 = if vv Θ v212 = vv Θ v219 then 1 else 0) (r222 : x222 = 0 ∨ x222 = 1), Q x222 Θ) ∧ (∀ (c7 : v4 = 7), W2_X58_has_66 ω d G l0 l2 0 (0) Θ Q) ∧ (∀ (c7 : v4 = 8), (kd Θ l2 = 29) ∧ ∀ (v227 : Int) (e227 : v227 = gt (vv Θ l2) 3) (r227 : -1 ≤ v227), (kd Θ v227 = 32) ∧ ∀ (v230 : Int) (e230 : v230 = gt (vv Θ v227) 0) (r230 : -1 ≤ v230), ∀ (v234 : Int) (e234 : v234 = gt (vv Θ l0) 1) (r234 : -1 ≤ v234), (1 ≤ d) ∧ (kd Θ v230 = 33) ∧ ∃ G237 : Nat, (0 + G237 ≤ G) ∧ w2_X20_hasType ω (d - 1) G237 v230 v234 Θ (fun x237 Θ237 => ∀ (L237 : Le Θ Θ237) (r237 : x237 = 0 ∨ x237 = 1), (0 + G237 ≤ G) ∧ Q x237 Θ237)) ∧ (∀ (c7 : v4 = 9), (kd Θ l2 = 29) ∧ ∀ (v227 : Int) (e227 : v227 = gt (vv Θ l2) 3) (r227 : -1 ≤ v227), (kd Θ v227 = 32) ∧ ∀ (v230 : Int) (e230 : v230 = gt (vv Θ v227) 0) (r230 : -1 ≤ v230), ∀ (v234 : Int) (e234 : v234 = gt (vv Θ l0) 1) (r234 : -1 ≤ v234), (1 ≤ d) ∧ (kd Θ v230 = 33) ∧ ∃ G237 : Nat, (0 + G237 ≤ G) ∧ w2_X20_hasType ω (d - 1) G237 v230 v234 Θ (fun x237 Θ237 => ∀ (L237 : Le Θ Θ237) (r237 : x237 = 0 ∨ x237 = 1), (0 + G237 ≤ G) ∧ Q x237 Θ237)) ∧ (∀ (c7 : v4 = 10), ∀ (v112 : Int) (e112 : v112 = gt (vv Θ l0) 0) (r112 : -1 ≤ v112), (kd Θ v112 = 60) ∧ ∀ (v115 : Int) (e115 : v115 = gt (vv Θ v112) 1) (r115 : -1 ≤ v115), ∀ (v118 : Int) (h118 : Str Θ v118 [101, 110, 99, 114, 121, 112, 116, 101, 100]), (1 ≤ d) ∧ (kd Θ v115 = 2) ∧ (2 ≤ d) ∧ ∀ (x120 : Int) (e120 : x120 = if vv Θ v115 = vv Θ v118 then 1 else 0) (r120 : x120 = 0 ∨ x120 = 1), (∀ (c123 : x120 = 0), ∀ (v143 : Int) (e143 : v143 = gt (vv Θ l0) 0) (r143 : -1 ≤ v143), (kd Θ v143 = 60) ∧ ∀ (v146 : Int) (e146 : v146 = gt (vv Θ v143) 1) (r146 : -1 ≤ v146), ∃ G149 : Nat, (0 + G149 ≤ G) ∧ w2_X58_hasTag ω (d - 1) G149 l2 v146 Θ (fun x149 Θ149 => ∀ (L149 : Le Θ Θ149) (r149 : x149 = 0 ∨ x149 = 1), (0 + G149 ≤ G) ∧ Q x149 Θ149)) ∧ (∀ (c123 : ¬ x120 = 0), (kd Θ l2 = 29) ∧ ∀ (v127 : Int) (e127 : v127 = gt (vv Θ l2) 3) (r127 : -1 ≤ v127), (kd Θ v127 = 32) ∧ ∀ (v130 : Int) (e130 : v130 = gt (vv Θ v127) 0) (r130 : -1 ≤ v130), ∀ (v133 : Int) (h133 : Str Θ v133 [109, 117, 108, 116, 105, 112, 97, 114, 116, 47, 101, 110, 99, 114, 121, 112, 116, 101, 100]), (kd Θ v130 = 33) ∧ ∃ G135 : Nat, (0 + G135 ≤ G) ∧ w2_X20_hasType ω (d - 1) G135 v130 v133 Θ (fun x135 Θ135 => ∀ (L135 : Le Θ Θ135) (r135 : x135 = 0 ∨ x135 = 1), (0 + G135 ≤ G) ∧ Q x135 Θ135))) ∧ (∀ (c7 : v4 = 11), (kd Θ l2 = 29) ∧ ∀ (v154 : Int) (e154 : v154 = gt (vv Θ l2) 3) (r154 : -1 ≤ v154), (kd Θ v154 = 32) ∧ ∀ (v157 : Int) (e157 : v157 = gt (vv Θ v154) 11) (r157 : -9223372036854775808 ≤ v157 ∧ v157 < 9223372036854775808), (∀ (c164 : v157 = (-9223372036854775808)), Q 0 Θ) ∧ (∀ (c164 : ¬ v157 = (-9223372036854775808)), ∀ (v169 : Int) (e169 : v169 = gt (vv Θ l2) 3) (r169 : -1 ≤ v169), (kd Θ v169 = 32) ∧ ∀ (v172 : Int) (e172 : v172 = gt (vv Θ v169) 11) (r172 : -9223372036854775808 ≤ v172 ∧ v172 < 9223372036854775808), (1 ≤ d) ∧ ∃ G178 : Nat, (0 + G178 ≤ G) ∧ w2_J4_floorDiv ω (d - 1) G178 v172 86400 Θ (fun x178 Θ178 => ∀ (L178 : Le Θ Θ178) (r178 : -9223372036854775808 ≤ x178 ∧ x178 < 9223372036854775808), (kd Θ178 l1 = 15) ∧ ∀ (v182 : Int) (e182 : v182 = gt (vv Θ178 l1) 16) (r182 : -2147483648 ≤ v182 ∧ v182 < 2147483648), ∃ G185 : Nat, (0 + G178 + G185 ≤ G) ∧ w2_X58_isIn ω (d - 1) G185 l0 x178 v182 Θ178 (fun x185 Θ185 => ∀ (L185 : Le Θ178 Θ185) (r185 : x185 = 0 ∨ x185 = 1), (∀ (c188 : x185 = 0), (0 + G178 + G185 ≤ G) ∧ Q 0 Θ185) ∧ (∀ (c188 : ¬ x185 = 0), (0 + G178 + G185 ≤ G) ∧ Q 1 Θ185))))) ∧ (∀ (c7 : v4 = 12), (kd Θ l2 = 29) ∧ ∀ (v199 : Int) (e199 : v199 = gt (vv Θ l2) 2) (r199 : -1 ≤ v199), (1 ≤ d) ∧ (kd Θ v199 = 2) ∧ (2 ≤ d) ∧ ∀ (x202 : Int) (e202 : x202 = len (vv Θ v199)) (r202 : -2147483648 ≤ x202 ∧ x202 < 2147483648), ∃ G207 : Nat, (0 + G207 ≤ G) ∧ w2_X58_isIn ω (d - 1) G207 l0 x202 0 Θ (fun x207 Θ207 => ∀ (L207 : Le Θ Θ207) (r207 : x207 = 0 ∨ x207 = 1), (0 + G207 ≤ G) ∧ Q x207 Θ207))) : w2_X58_has ω d G l0 l1 l2 Θ Q := sorry
set_option maxHeartbeats 4000000 in
theorem s2_X58_has_66 {ω : AO} {d G : Nat} {l0 l2 l3 : Int} {g : Nat} {Θ : Th} {Q : Int → Th → Prop} (hB : (kd Θ l2 = 29) ∧ ∀ (v68 : Int) (e68 : v68 = gt (vv Θ l2) 4) (r68 : -1 ≤ v68), (1 ≤ d) ∧ (kd Θ v68 = 3) ∧ (g ≤ G) ∧ ∀ (x71 : Int) (e71 : x71 = len (vv Θ v68)) (r71 : -2147483648 ≤ x71 ∧ x71 < 2147483648), (-2147483648 ≤ l3 ∧ l3 < 2147483648) ∧ (∀ (c74 : x71 ≤ l3), Q 0 Θ) ∧ (∀ (c74 : l3 < x71), ∀ (v79 : Int) (e79 : v79 = gt (vv Θ l2) 4) (r79 : -1 ≤ v79), (kd Θ v79 = 3) ∧ (0 ≤ l3 ∧ l3 < len (vv Θ v79)) ∧ (3 ≤ d) ∧ ∀ (x83 : Int) (e83 : x83 = gt (vv Θ v79) l3) (r83 : -1 ≤ x83), (x83 < 0 ∨ kd Θ x83 ∈ [31]) ∧ (kd Θ x83 = 31) ∧ ∃ G89 : Nat, (g + G89 ≤ G) ∧ w2_X18_file ω (d - 1) G89 x83 Θ (fun x89 Θ89 => ∀ (L89 : Le Θ Θ89) (r89 : -1 ≤ x89), (kd Θ89 x89 = 26) ∧ ∀ (v92 : Int) (e92 : v92 = gt (vv Θ89 x89) 0) (r92 : -1 ≤ v92), (kd Θ89 l0 = 62) ∧ ∃ G95 : Nat, (g + G89 + G95 ≤ G) ∧ w2_X58_fits ω (d - 1) G95 l0 v92 Θ89 (fun x95 Θ95 => ∀ (L95 : Le Θ89 Θ95) (r95 : x95 = 0 ∨ x95 = 1), (∀ (c98 : x95 = 0), W2_X58_has_66 ω d G l0 l2 ((l3 + 1)) (g + G89 + G95) Θ95 Q) ∧ (∀ (c98 : ¬ x95 = 0), (g + G89 + G95 ≤ G) ∧ Q 1 Θ95))))) : W2_X58_has_66 ω d G l0 l2 l3 g Θ Q := sorry
def W2_X58_cut_72 (ω : AO) (d G : Nat) (l0 l3 l4 : Int) (g : Nat) (Θ : Th) (Q : Th → Prop) : Prop := Hid (SJ2 ω yX58_cut cX58_cut 6 none d G (fun Sz Θz => (eU Sz (q2U ω Θz Q))) 72 [(2, l0), vN, vN, (2, l3), (0, l4), vN] [] g Θ)
set_option maxHeartbeats 4000000 in
theorem s2_X58_cut {ω : AO} {d G : Nat} {l0 l1 : Int} {Θ : Th} {Q : Th → Prop} (hB : (kd Θ l1 = 15) ∧ ∀ (v1 : Int) (e1 : v1 = gt (vv Θ l1) 4) (r1 : -1 ≤ v1), (kd Θ l0 = 62) ∧ ∀ (v5 : Int) (e5 : v5 = gt (vv Θ l0) 0) (r5 : -1 ≤ v5), (kd Θ v5 = 60) ∧ ∀ (v8 : Int) (e8 : v8 = gt (vv Θ v5) 1) (r8 : -1 ≤ v8), (1 ≤ d) ∧ (kd Θ v1 = 16) ∧ ∃ G11 : Nat, (0 + G11 ≤ G) ∧ w2_X2_query ω (d - 1) G11 v1 v8 Θ (fun x11 Θ11 => ∀ (L11 : Le Θ Θ11) (r11 : -1 ≤ x11), (0 + G11 + 1 ≤ G) ∧ ∀ (v16 : Int) (Θ16 : Th) (u16 : nt Θ11 ≤ v16 ∧ 0 ≤ v16) (b16 : Bl Θ11) (t16 : Θ16 = nu Θ11 v16 (203, [], 0, 0)), (4 ≤ d) ∧ ∀ (k20 : Int) (Θ20 : Th) (t20 : Θ20 = uq Θ16 v16 (3, [], 0, k20)), (¬ fz Θ20 l0) ∧ ∀ (Θ23 : Th) (t23 : Θ23 = pf Θ20 l0 3 v16), ∀ (v27 : Int) (e27 : v27 = gt (vv Θ23 l0) 0) (r27 : -1 ≤ v27), (kd Θ23 v27 = 60) ∧ ∃ G30 : Nat, (0 + G11 + 1 + G30 ≤ G) ∧ w2_X55_star ω (d - 1) G30 v27 Θ23 (fun x30 Θ30 => ∀ (L30 : Le Θ23 Θ30) (r30 : -2147483648 ≤ x30 ∧ x30 < 2147483648), (∀ (c33 : x30 < 0), (0 + G11 + 1 + G30 + 2 ≤ G) ∧ ∀ (v45 : Int) (Θ45 : Th) (u45 : nt Θ30 ≤ v45 ∧ 0 ≤ v45) (b45 : Bl Θ30) (t45 : Θ45 = nu Θ30 v45 (50, [-1, -1, 0, 0, 0, 0], 0, 0)), ∀ (v50 : Int) (e50 : v50 = gt (vv Θ45 l1) 4) (r50 : -1 ≤ v50), (kd Θ45 v50 = 16) ∧ ∀ (v53 : Int) (e53 : v53 = gt (vv Θ45 v50) 1) (r53 : -1 ≤ v53), ∃ G59 : Nat, (0 + G11 + 1 + G30 + 2 + G59 ≤ G) ∧ w2_X45_init ω (d - 1) G59 v45 v53 2000 Θ45 (fun Θ59 => ∀ (L59 : Le Θ45 Θ59), ∃ G66 : Nat, (0 + G11 + 1 + G30 + 2 + G59 + G66 ≤ G) ∧ w2_X45_add ω (d - 1) G66 v45 x11 0 Θ59 (fun Θ66 => ∀ (L66 : Le Θ59 Θ66), W2_X58_cut_72 ω d G l0 v45 0 (0 + G11 + 1 + G30 + 2 + G59 + G66) Θ66 Q))) ∧ (∀ (c33 : 0 ≤ x30), ∃ G38 : Nat, (0 + G11 + 1 + G30 + G38 ≤ G) ∧ w2_X19_smallOf ω (d - 1) G38 x11 Θ30 (fun x38 Θ38 => ∀ (L38 : Le Θ30 Θ38) (r38 : -1 ≤ x38), (¬ fz Θ38 l0) ∧ (-1 ≤ x38) ∧ ∀ (Θ41 : Th) (t41 : Θ41 = pf Θ38 l0 4 x38), (0 + G11 + 1 + G30 + G38 ≤ G) ∧ Q Θ41))))) : w2_X58_cut ω d G l0 l1 Θ Q := sorry
set_option maxHeartbeats 4000000 in
theorem s2_X58_cut_72 {ω : AO} {d G : Nat} {l0 l3 l4 : Int} {g : Nat} {Θ : Th} {Q : Th → Prop} (hB : (kd Θ l3 = 50) ∧ ∀ (v75 : Int) (e75 : v75 = gt (vv Θ l3) 0) (r75 : -1 ≤ v75), (1 ≤ d) ∧ (kd Θ v75 = 3) ∧ (g ≤ G) ∧ ∀ (x78 : Int) (e78 : x78 = len (vv Θ v75)) (r78 : -2147483648 ≤ x78 ∧ x78 < 2147483648), (-2147483648 ≤ l4 ∧ l4 < 2147483648) ∧ (∀ (c81 : x78 ≤ l4), Q Θ) ∧ (∀ (c81 : l4 < x78), ∀ (v85 : Int) (e85 : v85 = gt (vv Θ l3) 0) (r85 : -1 ≤ v85), (kd Θ v85 = 3) ∧ (0 ≤ l4 ∧ l4 < len (vv Θ v85)) ∧ (3 ≤ d) ∧ ∀ (x90 : Int) (e90 : x90 = gt (vv Θ v85) l4) (r90 : -1 ≤ x90), (x90 < 0 ∨ kd Θ x90 ∈ [51]) ∧ (kd Θ x90 = 51) ∧ ∃ G100 : Nat, (g + G100 ≤ G) ∧ w2_X46_isAddress ω (d - 1) G100 x90 Θ (fun x100 Θ100 => ∀ (L100 : Le Θ Θ100) (r100 : x100 = 0 ∨ x100 = 1), (∀ (c103 : x100 = 0), (kd Θ100 l0 = 62) ∧ ∀ (v110 : Int) (e110 : v110 = gt (vv Θ100 l0) 3) (r110 : -1 ≤ v110), ∃ G115 : Nat, (g + G100 + G115 ≤ G) ∧ w2_X46_text ω (d - 1) G115 x90 Θ100 (fun x115 Θ115 => ∀ (L115 : Le Θ100 Θ115) (r115 : -1 ≤ x115), (kd Θ115 v110 = 3) ∧ (¬ fz Θ115 v110) ∧ (rf Θ115 x115) ∧ (adC (cp Θ115 v110) (len (vv Θ115 v110)) ≤ 60000000) ∧ (7 ≤ d) ∧ (g + G100 + G115 + (adC (cp Θ115 v110) (len (vv Θ115 v110)) - cp Θ115 v110).toNat ≤ G) ∧ ∀ (k118 : Int) (Θ118 : Th) (t118 : Θ118 = uq Θ115 v110 (3, vv Θ115 v110 ++ [x115], adC (cp Θ115 v110) (len (vv Θ115 v110)), k118)), ∃ G125 : Nat, (g + G100 + G115 + (adC (cp Θ115 v110) (len (vv Θ115 v110)) - cp Θ115 v110).toNat + G125 ≤ G) ∧ w2_X46_stem ω (d - 1) G125 x90 Θ118 (fun x125 Θ125 => ∀ (L125 : Le Θ118 Θ125) (r125 : -1 ≤ x125), (¬ fz Θ125 l0) ∧ (-1 ≤ x125) ∧ ∀ (Θ128 : Th) (t128 : Θ128 = pf Θ125 l0 4 x125), W2_X58_cut_72 ω d G l0 l3 ((l4 + 1)) (g + G100 + G115 + (adC (cp Θ115 v110) (len (vv Θ115 v110)) - cp Θ115 v110).toNat + G125) Θ128 Q))) ∧ (∀ (c103 : ¬ x100 = 0), W2_X58_cut_72 ω d G l0 l3 ((l4 + 1)) (g + G100) Θ100 Q)))) : W2_X58_cut_72 ω d G l0 l3 l4 g Θ Q := sorry
def W2_X58_words_12 (ω : AO) (d G : Nat) (l0 l1 l2 l3 : Int) (g : Nat) (Θ : Th) (Q : Th → Prop) : Prop := Hid (SJ2 ω yX58_words cX58_words 4 none d G (fun Sz Θz => (eU Sz (q2U ω Θz Q))) 12 [(2, l0), (2, l1), (0, l2), (2, l3)] [] g Θ)
def W2_X58_words_124 (ω : AO) (d G : Nat) (l0 l1 l2 l3 : Int) (g : Nat) (Θ : Th) (Q : Th → Prop) : Prop := Hid (SJ2 ω yX58_words cX58_words 4 none d G (fun Sz Θz => (eU Sz (q2U ω Θz Q))) 124 [(2, l0), (2, l1), (0, l2), (2, l3)] [] g Θ)
def W2_X58_words_53 (ω : AO) (d G : Nat) (l0 l1 l2 l3 : Int) (g : Nat) (Θ : Th) (Q : Th → Prop) : Prop := Hid (SJ2 ω yX58_words cX58_words 4 none d G (fun Sz Θz => (eU Sz (q2U ω Θz Q))) 53 [(2, l0), (2, l1), (0, l2), (2, l3)] [] g Θ)
def W2_X58_words_84 (ω : AO) (d G : Nat) (g : Nat) (Θ : Th) (Q : Th → Prop) : Prop := Hid (SJ2 ω yX58_words cX58_words 4 none d G (fun Sz Θz => (eU Sz (q2U ω Θz Q))) 84 [vN, vN, vN, vN] [] g Θ)
set_option maxHeartbeats 4000000 in
theorem s2_X58_words {ω : AO} {d G : Nat} {l0 l1 l2 l3 : Int} {Θ : Th} {Q : Th → Prop} (hB : (kd Θ l0 = 62) ∧ ∀ (v1 : Int) (e1 : v1 = gt (vv Θ l0) 3) (r1 : -1 ≤ v1), (∀ (c4 : 0 ≤ v1), W2_X58_words_12 ω d G l0 l1 l2 l3 (0) Θ Q) ∧ (∀ (c4 : v1 < 0), (1 ≤ d) ∧ ∃ G9 : Nat, (0 + G9 ≤ G) ∧ w2_X58_cut ω (d - 1) G9 l0 l1 Θ (fun Θ9 => ∀ (L9 : Le Θ Θ9), W2_X58_words_12 ω d G l0 l1 l2 l3 (0 + G9) Θ9 Q))) : w2_X58_words ω d G l0 l1 l2 l3 Θ Q := sorry
set_option maxHeartbeats 4000000 in
theorem s2_X58_words_12 {ω : AO} {d G : Nat} {l0 l1 l2 l3 : Int} {g : Nat} {Θ : Th} {Q : Th → Prop} (hB : (kd Θ l0 = 62) ∧ ∀ (v13 : Int) (e13 : v13 = gt (vv Θ l0) 0) (r13 : -1 ≤ v13), (1 ≤ d) ∧ (kd Θ v13 = 60) ∧ ∃ G16 : Nat, (g + G16 ≤ G) ∧ w2_X55_star ω (d - 1) G16 v13 Θ (fun x16 Θ16 => ∀ (L16 : Le Θ Θ16) (r16 : -2147483648 ≤ x16 ∧ x16 < 2147483648), (∀ (c19 : x16 < 0), ∀ (v88 : Int) (e88 : v88 = gt (vv Θ16 l0) 3) (r88 : -1 ≤ v88), (kd Θ16 v88 = 3) ∧ (g + G16 ≤ G) ∧ ∀ (x91 : Int) (e91 : x91 = len (vv Θ16 v88)) (r91 : -2147483648 ≤ x91 ∧ x91 < 2147483648), (∀ (c95 : ¬ x91 = 1), W2_X58_words_124 ω d G l0 l1 l2 l3 (g + G16) Θ16 Q) ∧ (∀ (c95 : x91 = 1), ∀ (v99 : Int) (e99 : v99 = gt (vv Θ16 l0) 0) (r99 : -1 ≤ v99), (kd Θ16 v99 = 60) ∧ ∀ (v102 : Int) (e102 : v102 = gt (vv Θ16 v99) 2) (r102 : 0 ≤ v102 ∧ v102 < 2), (∀ (c105 : ¬ v102 = 0), W2_X58_words_124 ω d G l0 l1 l2 l3 (g + G16) Θ16 Q) ∧ (∀ (c105 : v102 = 0), (kd Θ16 l1 = 15) ∧ ∀ (v109 : Int) (e109 : v109 = gt (vv Θ16 l1) 7) (r109 : -1 ≤ v109), ∀ (v114 : Int) (e114 : v114 = gt (vv Θ16 l0) 4) (r114 : -1 ≤ v114), (kd Θ16 v109 = 21) ∧ ∃ G118 : Nat, (g + G16 + G118 ≤ G) ∧ w2_X7_stem ω (d - 1) G118 v109 l2 v114 l3 Θ16 (fun Θ118 => ∀ (L118 : Le Θ16 Θ118), (g + G16 + G118 ≤ G) ∧ Q Θ118)))) ∧ (∀ (c19 : 0 ≤ x16), (kd Θ16 l1 = 15) ∧ ∀ (v23 : Int) (e23 : v23 = gt (vv Θ16 l1) 7) (r23 : -1 ≤ v23), (g + G16 + 1 ≤ G) ∧ ∀ (v26 : Int) (Θ26 : Th) (u26 : nt Θ16 ≤ v26 ∧ 0 ≤ v26) (b26 : Bl Θ16) (t26 : Θ26 = nu Θ16 v26 (201, [], 0, 0)), (3 ≤ d) ∧ (g + G16 + 1 + 5 ≤ G) ∧ ∀ (Θ30 : Th) (t30 : Θ30 = uq Θ26 v26 (1, [], 16, 0)), ∀ (v33 : Int) (h33 : Str Θ30 v33 [112]), (¬ fz Θ30 v26) ∧ (bC (cp Θ30 v26) (len (vv Θ30 v26) + len (vv Θ30 v33)) ≤ 20000000) ∧ (11 ≤ d) ∧ (g + G16 + 1 + 5 + (bK (bC (cp Θ30 v26) (len (vv Θ30 v26) + len (vv Θ30 v33))) (max (cx Θ30 v26) (wide (vv Θ30 v33))) - bK (cp Θ30 v26) (cx Θ30 v26)).toNat ≤ G) ∧ ∀ (Θ35 : Th) (t35 : Θ35 = uq Θ30 v26 (1, vv Θ30 v26 ++ vv Θ30 v33, bC (cp Θ30 v26) (len (vv Θ30 v26) + len (vv Θ30 v33)), max (cx Θ30 v26) (wide (vv Θ30 v33)))), ∃ G39 : Nat, (g + G16 + 1 + 5 + (bK (bC (cp Θ30 v26) (len (vv Θ30 v26) + len (vv Θ30 v33))) (max (cx Θ30 v26) (wide (vv Θ30 v33))) - bK (cp Θ30 v26) (cx Θ30 v26)).toNat + G39 ≤ G) ∧ w2_J1_append_2 ω (d - 1) G39 v26 l2 Θ35 (fun x39 Θ39 => ∀ (L39 : Le Θ35 Θ39) (r39 : -1 ≤ x39), (kd Θ39 x39 = 1) ∧ (len (vv Θ39 x39) ≤ 15000000) ∧ (8 ≤ d) ∧ (g + G16 + 1 + 5 + (bK (bC (cp Θ30 v26) (len (vv Θ30 v26) + len (vv Θ30 v33))) (max (cx Θ30 v26) (wide (vv Θ30 v33))) - bK (cp Θ30 v26) (cx Θ30 v26)).toNat + G39 + (len (vv Θ39 x39) + 5).toNat ≤ G) ∧ ∀ (x42 : Int) (Θ42 : Th) (e42 : NewS Θ39 Θ42 x42 (vv Θ39 x39)) (n42 : nt Θ39 ≤ x42), ∀ (v46 : Int) (e46 : v46 = gt (vv Θ42 l0) 4) (r46 : -1 ≤ v46), (kd Θ42 v23 = 21) ∧ ∃ G50 : Nat, (g + G16 + 1 + 5 + (bK (bC (cp Θ30 v26) (len (vv Θ30 v26) + len (vv Θ30 v33))) (max (cx Θ30 v26) (wide (vv Θ30 v33))) - bK (cp Θ30 v26) (cx Θ30 v26)).toNat + G39 + (len (vv Θ39 x39) + 5).toNat + G50 ≤ G) ∧ w2_X7_matching ω (d - 1) G50 v23 x42 v46 l3 Θ42 (fun Θ50 => ∀ (L50 : Le Θ42 Θ50), W2_X58_words_53 ω d G l0 l1 l2 l3 (g + G16 + 1 + 5 + (bK (bC (cp Θ30 v26) (len (vv Θ30 v26) + len (vv Θ30 v33))) (max (cx Θ30 v26) (wide (vv Θ30 v33))) - bK (cp Θ30 v26) (cx Θ30 v26)).toNat + G39 + (len (vv Θ39 x39) + 5).toNat + G50) Θ50 Q))))) : W2_X58_words_12 ω d G l0 l1 l2 l3 g Θ Q := sorry
set_option maxHeartbeats 4000000 in
theorem s2_X58_words_124 {ω : AO} {d G : Nat} {l0 l1 l2 l3 : Int} {g : Nat} {Θ : Th} {Q : Th → Prop} (hB : (kd Θ l0 = 62) ∧ ∀ (v125 : Int) (e125 : v125 = gt (vv Θ l0) 3) (r125 : -1 ≤ v125), (1 ≤ d) ∧ (kd Θ v125 = 3) ∧ (g ≤ G) ∧ ∀ (x128 : Int) (e128 : x128 = if vv Θ v125 = [] then 1 else 0) (r128 : x128 = 0 ∨ x128 = 1), (∀ (c131 : ¬ x128 = 0), Q Θ) ∧ (∀ (c131 : x128 = 0), (kd Θ l1 = 15) ∧ ∀ (v135 : Int) (e135 : v135 = gt (vv Θ l1) 7) (r135 : -1 ≤ v135), ∀ (v140 : Int) (e140 : v140 = gt (vv Θ l0) 3) (r140 : -1 ≤ v140), (kd Θ v135 = 21) ∧ ∃ G144 : Nat, (g + G144 ≤ G) ∧ w2_X7_phrase ω (d - 1) G144 v135 l2 v140 l3 Θ (fun Θ144 => ∀ (L144 : Le Θ Θ144), (g + G144 ≤ G) ∧ Q Θ144))) : W2_X58_words_124 ω d G l0 l1 l2 l3 g Θ Q := sorry
set_option maxHeartbeats 4000000 in
theorem s2_X58_words_53 {ω : AO} {d G : Nat} {l0 l1 l2 l3 : Int} {g : Nat} {Θ : Th} {Q : Th → Prop} (hB : (kd Θ l1 = 15) ∧ ∀ (v54 : Int) (e54 : v54 = gt (vv Θ l1) 7) (r54 : -1 ≤ v54), (g + 1 ≤ G) ∧ ∀ (v57 : Int) (Θ57 : Th) (u57 : nt Θ ≤ v57 ∧ 0 ≤ v57) (b57 : Bl Θ) (t57 : Θ57 = nu Θ v57 (201, [], 0, 0)), (1 ≤ d) ∧ (3 ≤ d) ∧ (g + 1 + 5 ≤ G) ∧ ∀ (Θ61 : Th) (t61 : Θ61 = uq Θ57 v57 (1, [], 16, 0)), ∀ (v64 : Int) (h64 : Str Θ61 v64 [97]), (¬ fz Θ61 v57) ∧ (bC (cp Θ61 v57) (len (vv Θ61 v57) + len (vv Θ61 v64)) ≤ 20000000) ∧ (11 ≤ d) ∧ (g + 1 + 5 + (bK (bC (cp Θ61 v57) (len (vv Θ61 v57) + len (vv Θ61 v64))) (max (cx Θ61 v57) (wide (vv Θ61 v64))) - bK (cp Θ61 v57) (cx Θ61 v57)).toNat ≤ G) ∧ ∀ (Θ66 : Th) (t66 : Θ66 = uq Θ61 v57 (1, vv Θ61 v57 ++ vv Θ61 v64, bC (cp Θ61 v57) (len (vv Θ61 v57) + len (vv Θ61 v64)), max (cx Θ61 v57) (wide (vv Θ61 v64)))), ∃ G70 : Nat, (g + 1 + 5 + (bK (bC (cp Θ61 v57) (len (vv Θ61 v57) + len (vv Θ61 v64))) (max (cx Θ61 v57) (wide (vv Θ61 v64))) - bK (cp Θ61 v57) (cx Θ61 v57)).toNat + G70 ≤ G) ∧ w2_J1_append_2 ω (d - 1) G70 v57 l2 Θ66 (fun x70 Θ70 => ∀ (L70 : Le Θ66 Θ70) (r70 : -1 ≤ x70), (kd Θ70 x70 = 1) ∧ (len (vv Θ70 x70) ≤ 15000000) ∧ (8 ≤ d) ∧ (g + 1 + 5 + (bK (bC (cp Θ61 v57) (len (vv Θ61 v57) + len (vv Θ61 v64))) (max (cx Θ61 v57) (wide (vv Θ61 v64))) - bK (cp Θ61 v57) (cx Θ61 v57)).toNat + G70 + (len (vv Θ70 x70) + 5).toNat ≤ G) ∧ ∀ (x73 : Int) (Θ73 : Th) (e73 : NewS Θ70 Θ73 x73 (vv Θ70 x70)) (n73 : nt Θ70 ≤ x73), (kd Θ73 l0 = 62) ∧ ∀ (v77 : Int) (e77 : v77 = gt (vv Θ73 l0) 4) (r77 : -1 ≤ v77), (kd Θ73 v54 = 21) ∧ ∃ G81 : Nat, (g + 1 + 5 + (bK (bC (cp Θ61 v57) (len (vv Θ61 v57) + len (vv Θ61 v64))) (max (cx Θ61 v57) (wide (vv Θ61 v64))) - bK (cp Θ61 v57) (cx Θ61 v57)).toNat + G70 + (len (vv Θ70 x70) + 5).toNat + G81 ≤ G) ∧ w2_X7_matching ω (d - 1) G81 v54 x73 v77 l3 Θ73 (fun Θ81 => ∀ (L81 : Le Θ73 Θ81), W2_X58_words_84 ω d G  (g + 1 + 5 + (bK (bC (cp Θ61 v57) (len (vv Θ61 v57) + len (vv Θ61 v64))) (max (cx Θ61 v57) (wide (vv Θ61 v64))) - bK (cp Θ61 v57) (cx Θ61 v57)).toNat + G70 + (len (vv Θ70 x70) + 5).toNat + G81) Θ81 Q))) : W2_X58_words_53 ω d G l0 l1 l2 l3 g Θ Q := sorry
set_option maxHeartbeats 4000000 in
theorem s2_X58_words_84 {ω : AO} {d G : Nat} {g : Nat} {Θ : Th} {Q : Th → Prop} (hB : (g ≤ G) ∧ Q Θ) : W2_X58_words_84 ω d G  g Θ Q := sorry
def W2_X58_ask_31 (ω : AO) (d G : Nat) (l0 l1 l2 : Int) (g : Nat) (Θ : Th) (Q : Int → Th → Prop) : Prop := Hid (SJ2 ω yX58_ask cX58_ask 6 (some (.object "MailWorks$Bits")) d G (fun Sz Θz => (eA Sz (q2 ω Θz Q))) 31 [(2, l0), (2, l1), (2, l2), vN, vN, vN] [] g Θ)
def W2_X58_ask_116 (ω : AO) (d G : Nat) (l0 l1 l2 l3 : Int) (g : Nat) (Θ : Th) (Q : Int → Th → Prop) : Prop := Hid (SJ2 ω yX58_ask cX58_ask 6 (some (.object "MailWorks$Bits")) d G (fun Sz Θz => (eA Sz (q2 ω Θz Q))) 116 [(2, l0), (2, l1), (2, l2), (0, l3), vN, vN] [] g Θ)
def W2_X58_ask_70 (ω : AO) (d G : Nat) (l0 l1 l2 s0 : Int) (g : Nat) (Θ : Th) (Q : Int → Th → Prop) : Prop := Hid (SJ2 ω yX58_ask cX58_ask 6 (some (.object "MailWorks$Bits")) d G (fun Sz Θz => (eA Sz (q2 ω Θz Q))) 70 [(2, l0), (2, l1), (2, l2), vN, vN, vN] [(0, s0)] g Θ)
def W2_X58_ask_91 (ω : AO) (d G : Nat) (l0 l1 l2 l4 l5 : Int) (g : Nat) (Θ : Th) (Q : Int → Th → Prop) : Prop := Hid (SJ2 ω yX58_ask cX58_ask 6 (some (.object "MailWorks$Bits")) d G (fun Sz Θz => (eA Sz (q2 ω Θz Q))) 91 [(2, l0), (2, l1), (2, l2), vN, (0, l4), (0, l5)] [] g Θ)
set_option maxHeartbeats 4000000 in
theorem s2_X58_ask {ω : AO} {d G : Nat} {l0 l1 : Int} {Θ : Th} {Q : Int → Th → Prop} (hB : (0 + 1 ≤ G) ∧ ∀ (v0 : Int) (Θ0 : Th) (u0 : nt Θ ≤ v0 ∧ 0 ≤ v0) (b0 : Bl Θ) (t0 : Θ0 = nu Θ v0 (22, [-1], 0, 0)), (1 ≤ d) ∧ ∃ G4 : Nat, (0 + 1 + G4 ≤ G) ∧ w2_X8_init ω (d - 1) G4 v0 Θ0 (fun Θ4 => ∀ (L4 : Le Θ0 Θ4), (kd Θ4 l0 = 62) ∧ ∀ (v9 : Int) (e9 : v9 = gt (vv Θ4 l0) 0) (r9 : -1 ≤ v9), (kd Θ4 v9 = 60) ∧ ∀ (v12 : Int) (e12 : v12 = gt (vv Θ4 v9) 0) (r12 : -2147483648 ≤ v12 ∧ v12 < 2147483648), (∀ (c16 : v12 ≤ 4), W2_X58_ask_31 ω d G l0 l1 v0 (0 + 1 + G4) Θ4 Q) ∧ (∀ (c16 : 4 < v12), ∀ (v20 : Int) (e20 : v20 = gt (vv Θ4 l0) 0) (r20 : -1 ≤ v20), (kd Θ4 v20 = 60) ∧ ∀ (v23 : Int) (e23 : v23 = gt (vv Θ4 v20) 0) (r23 : -2147483648 ≤ v23 ∧ v23 < 2147483648), (∀ (c28 : ¬ v23 = 9), W2_X58_ask_116 ω d G l0 l1 v0 0 (0 + 1 + G4) Θ4 Q) ∧ (∀ (c28 : v23 = 9), W2_X58_ask_31 ω d G l0 l1 v0 (0 + 1 + G4) Θ4 Q)))) : w2_X58_ask ω d G l0 l1 Θ Q := sorry
set_option maxHeartbeats 4000000 in
theorem s2_X58_ask_31 {ω : AO} {d G : Nat} {l0 l1 l2 : Int} {g : Nat} {Θ : Th} {Q : Int → Th → Prop} (hB : (kd Θ l0 = 62) ∧ ∀ (v32 : Int) (e32 : v32 = gt (vv Θ l0) 0) (r32 : -1 ≤ v32), (kd Θ v32 = 60) ∧ ∀ (v35 : Int) (e35 : v35 = gt (vv Θ v32) 0) (r35 : -2147483648 ≤ v35 ∧ v35 < 2147483648), (∀ (c38 : ¬ v35 = 0), ∀ (v46 : Int) (e46 : v46 = gt (vv Θ l0) 0) (r46 : -1 ≤ v46), (kd Θ v46 = 60) ∧ ∀ (v49 : Int) (e49 : v49 = gt (vv Θ v46) 0) (r49 : -2147483648 ≤ v49 ∧ v49 < 2147483648), (∀ (c54 : ¬ v49 = 9), ∀ (v62 : Int) (e62 : v62 = gt (vv Θ l0) 0) (r62 : -1 ≤ v62), (kd Θ v62 = 60) ∧ ∀ (v65 : Int) (e65 : v65 = gt (vv Θ v62) 0) (r65 : -2147483648 ≤ v65 ∧ v65 < 2147483648), W2_X58_ask_70 ω d G l0 l1 l2 ((v65 - 1)) (g) Θ Q) ∧ (∀ (c54 : v49 = 9), W2_X58_ask_70 ω d G l0 l1 l2 4 (g) Θ Q)) ∧ (∀ (c38 : v35 = 0), W2_X58_ask_70 ω d G l0 l1 l2 2 (g) Θ Q)) : W2_X58_ask_31 ω d G l0 l1 l2 g Θ Q := sorry
set_option maxHeartbeats 4000000 in
theorem s2_X58_ask_116 {ω : AO} {d G : Nat} {l0 l1 l2 l3 : Int} {g : Nat} {Θ : Th} {Q : Int → Th → Prop} (hB : (kd Θ l1 = 15) ∧ ∀ (v118 : Int) (e118 : v118 = gt (vv Θ l1) 6) (r118 : -1 ≤ v118), (1 ≤ d) ∧ (kd Θ v118 = 3) ∧ (g ≤ G) ∧ ∀ (x121 : Int) (e121 : x121 = len (vv Θ v118)) (r121 : -2147483648 ≤ x121 ∧ x121 < 2147483648), (-2147483648 ≤ l3 ∧ l3 < 2147483648) ∧ (∀ (c124 : x121 ≤ l3), (-1 ≤ l2) ∧ Q l2 Θ) ∧ (∀ (c124 : l3 < x121), ∀ (v128 : Int) (e128 : v128 = gt (vv Θ l1) 6) (r128 : -1 ≤ v128), (kd Θ v128 = 3) ∧ (0 ≤ l3 ∧ l3 < len (vv Θ v128)) ∧ (3 ≤ d) ∧ ∀ (x132 : Int) (e132 : x132 = gt (vv Θ v128) l3) (r132 : -1 ≤ x132), (x132 < 0 ∨ kd Θ x132 ∈ [29]) ∧ (kd Θ x132 = 29) ∧ ∃ G138 : Nat, (g + G138 ≤ G) ∧ w2_X16_isThere ω (d - 1) G138 x132 Θ (fun x138 Θ138 => ∀ (L138 : Le Θ Θ138) (r138 : x138 = 0 ∨ x138 = 1), (∀ (c141 : x138 = 0), W2_X58_ask_116 ω d G l0 l1 l2 ((l3 + 1)) (g + G138) Θ138 Q) ∧ (∀ (c141 : ¬ x138 = 0), ∀ (v147 : Int) (e147 : v147 = gt (vv Θ138 l1) 6) (r147 : -1 ≤ v147), (kd Θ138 v147 = 3) ∧ (0 ≤ l3 ∧ l3 < len (vv Θ138 v147)) ∧ (g + G138 ≤ G) ∧ ∀ (x151 : Int) (e151 : x151 = gt (vv Θ138 v147) l3) (r151 : -1 ≤ x151), (x151 < 0 ∨ kd Θ138 x151 ∈ [29]) ∧ (kd Θ138 l0 = 62) ∧ ∃ G157 : Nat, (g + G138 + G157 ≤ G) ∧ w2_X58_has ω (d - 1) G157 l0 l1 x151 Θ138 (fun x157 Θ157 => ∀ (L157 : Le Θ138 Θ157) (r157 : x157 = 0 ∨ x157 = 1), (∀ (c160 : x157 = 0), W2_X58_ask_116 ω d G l0 l1 l2 ((l3 + 1)) (g + G138 + G157) Θ157 Q) ∧ (∀ (c160 : ¬ x157 = 0), (kd Θ157 l2 = 22) ∧ ∃ G165 : Nat, (g + G138 + G157 + G165 ≤ G) ∧ w2_X8_set ω (d - 1) G165 l2 l3 Θ157 (fun Θ165 => ∀ (L165 : Le Θ157 Θ165), W2_X58_ask_116 ω d G l0 l1 l2 ((l3 + 1)) (g + G138 + G157 + G165) Θ165 Q))))))) : W2_X58_ask_116 ω d G l0 l1 l2 l3 g Θ Q := sorry
set_option maxHeartbeats 4000000 in
theorem s2_X58_ask_70 {ω : AO} {d G : Nat} {l0 l1 l2 s0 : Int} {g : Nat} {Θ : Th} {Q : Int → Th → Prop} (hB : (kd Θ l0 = 62) ∧ ∀ (v72 : Int) (e72 : v72 = gt (vv Θ l0) 0) (r72 : -1 ≤ v72), (kd Θ v72 = 60) ∧ ∀ (v75 : Int) (e75 : v75 = gt (vv Θ v72) 0) (r75 : -2147483648 ≤ v75 ∧ v75 < 2147483648), (∀ (c78 : ¬ v75 = 0), W2_X58_ask_91 ω d G l0 l1 l2 s0 s0 (g) Θ Q) ∧ (∀ (c78 : v75 = 0), W2_X58_ask_91 ω d G l0 l1 l2 3 s0 (g) Θ Q)) : W2_X58_ask_70 ω d G l0 l1 l2 s0 g Θ Q := sorry
set_option maxHeartbeats 4000000 in
theorem s2_X58_ask_91 {ω : AO} {d G : Nat} {l0 l1 l2 l4 l5 : Int} {g : Nat} {Θ : Th} {Q : Int → Th → Prop} (hB : (-2147483648 ≤ l5 ∧ l5 < 2147483648) ∧ (-2147483648 ≤ l4 ∧ l4 < 2147483648) ∧ (∀ (c95 : l4 < l5), (g ≤ G) ∧ (-1 ≤ l2) ∧ Q l2 Θ) ∧ (∀ (c95 : l5 ≤ l4), (1 ≤ d) ∧ (kd Θ l0 = 62) ∧ ∃ G103 : Nat, (g + G103 ≤ G) ∧ w2_X58_words ω (d - 1) G103 l0 l1 l5 l2 Θ (fun Θ103 => ∀ (L103 : Le Θ Θ103), W2_X58_ask_91 ω d G l0 l1 l2 l4 ((l5 + 1)) (g + G103) Θ103 Q))) : W2_X58_ask_91 ω d G l0 l1 l2 l4 l5 g Θ Q := sorry
set_option maxHeartbeats 4000000 in
theorem s2_X59_ask {ω : AO} {d G : Nat} {l0 l1 : Int} {Θ : Th} {Q : Int → Th → Prop} (hB : (1 ≤ d) ∧ (kd Θ l1 = 15) ∧ ∃ G1 : Nat, (0 + G1 ≤ G) ∧ w2_X1_there ω (d - 1) G1 l1 Θ (fun x1 Θ1 => ∀ (L1 : Le Θ Θ1) (r1 : -1 ≤ x1), (kd Θ1 l0 = 63) ∧ ∀ (v7 : Int) (e7 : v7 = gt (vv Θ1 l0) 0) (r7 : -1 ≤ v7), (((kd Θ1 v7 = 62) ∧ ∃ G11 : Nat, (0 + G1 + G11 ≤ G) ∧ w2_X58_ask ω (d - 1) G11 v7 l1 Θ1 (fun x11 Θ11 => ∀ (L11 : Le Θ1 Θ11) (r11 : -1 ≤ x11), (kd Θ11 x1 = 22) ∧ ∃ G14 : Nat, (0 + G1 + G11 + G14 ≤ G) ∧ w2_X8_andNot ω (d - 1) G14 x1 x11 Θ11 (fun Θ14 => ∀ (L14 : Le Θ11 Θ14), (0 + G1 + G11 + G14 ≤ G) ∧ (-1 ≤ x1) ∧ Q x1 Θ14))) ∨ ((kd Θ1 v7 = 63) ∧ ∃ G11 : Nat, (0 + G1 + G11 ≤ G) ∧ w2_X59_ask ω (d - 1) G11 v7 l1 Θ1 (fun x11 Θ11 => ∀ (L11 : Le Θ1 Θ11) (r11 : -1 ≤ x11), (kd Θ11 x1 = 22) ∧ ∃ G14 : Nat, (0 + G1 + G11 + G14 ≤ G) ∧ w2_X8_andNot ω (d - 1) G14 x1 x11 Θ11 (fun Θ14 => ∀ (L14 : Le Θ11 Θ14), (0 + G1 + G11 + G14 ≤ G) ∧ (-1 ≤ x1) ∧ Q x1 Θ14))) ∨ ((kd Θ1 v7 = 64) ∧ ∃ G11 : Nat, (0 + G1 + G11 ≤ G) ∧ w2_X60_ask ω (d - 1) G11 v7 l1 Θ1 (fun x11 Θ11 => ∀ (L11 : Le Θ1 Θ11) (r11 : -1 ≤ x11), (kd Θ11 x1 = 22) ∧ ∃ G14 : Nat, (0 + G1 + G11 + G14 ≤ G) ∧ w2_X8_andNot ω (d - 1) G14 x1 x11 Θ11 (fun Θ14 => ∀ (L14 : Le Θ11 Θ14), (0 + G1 + G11 + G14 ≤ G) ∧ (-1 ≤ x1) ∧ Q x1 Θ14)))))) : w2_X59_ask ω d G l0 l1 Θ Q := sorry
def W2_X60_ask_18 (ω : AO) (d G : Nat) (l0 l1 l2 l3 : Int) (g : Nat) (Θ : Th) (Q : Int → Th → Prop) : Prop := Hid (SJ2 ω yX60_ask cX60_ask 5 (some (.object "MailWorks$Bits")) d G (fun Sz Θz => (eA Sz (q2 ω Θz Q))) 18 [(2, l0), (2, l1), (2, l2), (0, l3), vN] [] g Θ)
set_option maxHeartbeats 4000000 in
theorem s2_X60_ask {ω : AO} {d G : Nat} {l0 l1 : Int} {Θ : Th} {Q : Int → Th → Prop} (hB : (kd Θ l0 = 64) ∧ ∀ (v1 : Int) (e1 : v1 = gt (vv Θ l0) 1) (r1 : -1 ≤ v1), (1 ≤ d) ∧ (kd Θ v1 = 3) ∧ (0 ≤ (0 : Int) ∧ (0 : Int) < len (vv Θ v1)) ∧ (3 ≤ d) ∧ ∀ (x5 : Int) (e5 : x5 = gt (vv Θ v1) (0 : Int)) (r5 : -1 ≤ x5), (x5 < 0 ∨ kd Θ x5 ∈ [62, 63, 64]) ∧ (((kd Θ x5 = 62) ∧ ∃ G12 : Nat, (0 + G12 ≤ G) ∧ w2_X58_ask ω (d - 1) G12 x5 l1 Θ (fun x12 Θ12 => ∀ (L12 : Le Θ Θ12) (r12 : -1 ≤ x12), W2_X60_ask_18 ω d G l0 l1 x12 1 (0 + G12) Θ12 Q)) ∨ ((kd Θ x5 = 63) ∧ ∃ G12 : Nat, (0 + G12 ≤ G) ∧ w2_X59_ask ω (d - 1) G12 x5 l1 Θ (fun x12 Θ12 => ∀ (L12 : Le Θ Θ12) (r12 : -1 ≤ x12), W2_X60_ask_18 ω d G l0 l1 x12 1 (0 + G12) Θ12 Q)) ∨ ((kd Θ x5 = 64) ∧ ∃ G12 : Nat, (0 + G12 ≤ G) ∧ w2_X60_ask ω (d - 1) G12 x5 l1 Θ (fun x12 Θ12 => ∀ (L12 : Le Θ Θ12) (r12 : -1 ≤ x12), W2_X60_ask_18 ω d G l0 l1 x12 1 (0 + G12) Θ12 Q)))) : w2_X60_ask ω d G l0 l1 Θ Q := sorry
set_option maxHeartbeats 4000000 in
theorem s2_X60_ask_18 {ω : AO} {d G : Nat} {l0 l1 l2 l3 : Int} {g : Nat} {Θ : Th} {Q : Int → Th → Prop} (hB : (kd Θ l0 = 64) ∧ ∀ (v20 : Int) (e20 : v20 = gt (vv Θ l0) 1) (r20 : -1 ≤ v20), (1 ≤ d) ∧ (kd Θ v20 = 3) ∧ (g ≤ G) ∧ ∀ (x23 : Int) (e23 : x23 = len (vv Θ v20)) (r23 : -2147483648 ≤ x23 ∧ x23 < 2147483648), (-2147483648 ≤ l3 ∧ l3 < 2147483648) ∧ (∀ (c26 : x23 ≤ l3), (-1 ≤ l2) ∧ Q l2 Θ) ∧ (∀ (c26 : l3 < x23), ∀ (v30 : Int) (e30 : v30 = gt (vv Θ l0) 1) (r30 : -1 ≤ v30), (kd Θ v30 = 3) ∧ (0 ≤ l3 ∧ l3 < len (vv Θ v30)) ∧ (3 ≤ d) ∧ ∀ (x34 : Int) (e34 : x34 = gt (vv Θ v30) l3) (r34 : -1 ≤ x34), (x34 < 0 ∨ kd Θ x34 ∈ [62, 63, 64]) ∧ (((kd Θ x34 = 62) ∧ ∃ G41 : Nat, (g + G41 ≤ G) ∧ w2_X58_ask ω (d - 1) G41 x34 l1 Θ (fun x41 Θ41 => ∀ (L41 : Le Θ Θ41) (r41 : -1 ≤ x41), ∀ (v47 : Int) (e47 : v47 = gt (vv Θ41 l0) 0) (r47 : -2147483648 ≤ v47 ∧ v47 < 2147483648), (∀ (c52 : ¬ v47 = (-4)), ∀ (v65 : Int) (e65 : v65 = gt (vv Θ41 l0) 0) (r65 : -2147483648 ≤ v65 ∧ v65 < 2147483648), (∀ (c70 : ¬ v65 = (-3)), (kd Θ41 l2 = 22) ∧ ∃ G85 : Nat, (g + G41 + G85 ≤ G) ∧ w2_X8_xor ω (d - 1) G85 l2 x41 Θ41 (fun Θ85 => ∀ (L85 : Le Θ41 Θ85), W2_X60_ask_18 ω d G l0 l1 l2 ((l3 + 1)) (g + G41 + G85) Θ85 Q)) ∧ (∀ (c70 : v65 = (-3)), (kd Θ41 l2 = 22) ∧ ∃ G76 : Nat, (g + G41 + G76 ≤ G) ∧ w2_X8_and ω (d - 1) G76 l2 x41 Θ41 (fun Θ76 => ∀ (L76 : Le Θ41 Θ76), W2_X60_ask_18 ω d G l0 l1 l2 ((l3 + 1)) (g + G41 + G76) Θ76 Q))) ∧ (∀ (c52 : v47 = (-4)), (kd Θ41 l2 = 22) ∧ ∃ G58 : Nat, (g + G41 + G58 ≤ G) ∧ w2_X8_or ω (d - 1) G58 l2 x41 Θ41 (fun Θ58 => ∀ (L58 : Le Θ41 Θ58), W2_X60_ask_18 ω d G l0 l1 l2 ((l3 + 1)) (g + G41 + G58) Θ58 Q)))) ∨ ((kd Θ x34 = 63) ∧ ∃ G41 : Nat, (g + G41 ≤ G) ∧ w2_X59_ask ω (d - 1) G41 x34 l1 Θ (fun x41 Θ41 => ∀ (L41 : Le Θ Θ41) (r41 : -1 ≤ x41), ∀ (v47 : Int) (e47 : v47 = gt (vv Θ41 l0) 0) (r47 : -2147483648 ≤ v47 ∧ v47 < 2147483648), (∀ (c52 : ¬ v47 = (-4)), ∀ (v65 : Int) (e65 : v65 = gt (vv Θ41 l0) 0) (r65 : -2147483648 ≤ v65 ∧ v65 < 2147483648), (∀ (c70 : ¬ v65 = (-3)), (kd Θ41 l2 = 22) ∧ ∃ G85 : Nat, (g + G41 + G85 ≤ G) ∧ w2_X8_xor ω (d - 1) G85 l2 x41 Θ41 (fun Θ85 => ∀ (L85 : Le Θ41 Θ85), W2_X60_ask_18 ω d G l0 l1 l2 ((l3 + 1)) (g + G41 + G85) Θ85 Q)) ∧ (∀ (c70 : v65 = (-3)), (kd Θ41 l2 = 22) ∧ ∃ G76 : Nat, (g + G41 + G76 ≤ G) ∧ w2_X8_and ω (d - 1) G76 l2 x41 Θ41 (fun Θ76 => ∀ (L76 : Le Θ41 Θ76), W2_X60_ask_18 ω d G l0 l1 l2 ((l3 + 1)) (g + G41 + G76) Θ76 Q))) ∧ (∀ (c52 : v47 = (-4)), (kd Θ41 l2 = 22) ∧ ∃ G58 : Nat, (g + G41 + G58 ≤ G) ∧ w2_X8_or ω (d - 1) G58 l2 x41 Θ41 (fun Θ58 => ∀ (L58 : Le Θ41 Θ58), W2_X60_ask_18 ω d G l0 l1 l2 ((l3 + 1)) (g + G41 + G58) Θ58 Q)))) ∨ ((kd Θ x34 = 64) ∧ ∃ G41 : Nat, (g + G41 ≤ G) ∧ w2_X60_ask ω (d - 1) G41 x34 l1 Θ (fun x41 Θ41 => ∀ (L41 : Le Θ Θ41) (r41 : -1 ≤ x41), ∀ (v47 : Int) (e47 : v47 = gt (vv Θ41 l0) 0) (r47 : -2147483648 ≤ v47 ∧ v47 < 2147483648), (∀ (c52 : ¬ v47 = (-4)), ∀ (v65 : Int) (e65 : v65 = gt (vv Θ41 l0) 0) (r65 : -2147483648 ≤ v65 ∧ v65 < 2147483648), (∀ (c70 : ¬ v65 = (-3)), (kd Θ41 l2 = 22) ∧ ∃ G85 : Nat, (g + G41 + G85 ≤ G) ∧ w2_X8_xor ω (d - 1) G85 l2 x41 Θ41 (fun Θ85 => ∀ (L85 : Le Θ41 Θ85), W2_X60_ask_18 ω d G l0 l1 l2 ((l3 + 1)) (g + G41 + G85) Θ85 Q)) ∧ (∀ (c70 : v65 = (-3)), (kd Θ41 l2 = 22) ∧ ∃ G76 : Nat, (g + G41 + G76 ≤ G) ∧ w2_X8_and ω (d - 1) G76 l2 x41 Θ41 (fun Θ76 => ∀ (L76 : Le Θ41 Θ76), W2_X60_ask_18 ω d G l0 l1 l2 ((l3 + 1)) (g + G41 + G76) Θ76 Q))) ∧ (∀ (c52 : v47 = (-4)), (kd Θ41 l2 = 22) ∧ ∃ G58 : Nat, (g + G41 + G58 ≤ G) ∧ w2_X8_or ω (d - 1) G58 l2 x41 Θ41 (fun Θ58 => ∀ (L58 : Le Θ41 Θ58), W2_X60_ask_18 ω d G l0 l1 l2 ((l3 + 1)) (g + G41 + G58) Θ58 Q))))))) : W2_X60_ask_18 ω d G l0 l1 l2 l3 g Θ Q := sorry
/-! 89.bb.lean.txt -/
/-! leaves of a query: what a mail has -/
set_option maxRecDepth 100000
set_option maxHeartbeats 4000000
theorem xorL_sg {x y : Int} (hx : -9223372036854775808 ≤ x ∧ x < 9223372036854775808) (hy : 0 ≤ y ∧ y < 9223372036854775808) : xorL x y < 0 ↔ x < 0 := sorry
section LFH
variable {ω : AO} {d G : Nat} {Θ Θ1 : Th} {r m o a s x : Int} {l w txt : List Int} {R : MaR} {nm : Int → List Int} {fl : Int → Int}
theorem u_J4_floorDiv {Q : Int → Th → Prop} (hx : -9223372036854775808 ≤ x ∧ x < 9223372036854775808) (hQ : Q (x / 86400) Θ) : w2_J4_floorDiv ω d G x 86400 Θ Q := sorry
/-- whether a mail has a tag -/
def htgF (fl : Int → Int) (R : MaR) (t : List Int) : Bool := if ftgF t < 0 then isK R.2.2.2.2 t else decide (shrI (ftF (flA fl R.2.2.2.1 0) (!R.2.2.2.1.isEmpty)) (ftgF t) % 2 = 1)
theorem u_X58_hasTag {Q : Int → Th → Prop} (hd : 9 ≤ d) (h : MaV Θ m R nm fl) (hs : Str Θ s l) (hw : wide l = 0) (hl : R.2.2.2.2.length ≤ 1000000) (hQ : Q (if htgF fl R l = true then 1 else 0) Θ) : w2_X58_hasTag ω d G m s Θ Q := sorry
/-- whether a number is in a range -/
def inrF (od : Bool) (t : List Int) (v today : Int) : Bool :=
  (decide (rgLo od t = -2147483648) || decide ((if rgLo od t < 0 ∧ rgLo od t ≠ -2147483648 then today + rgLo od t else rgLo od t) ≤ v)) && (decide (rgHi od t = 2147483647) || decide (v ≤ (if rgHi od t < 0 then today + rgHi od t else rgHi od t)))
theorem rgLo_in {od : Bool} {t : List Int} : inI (rgLo od t) := sorry
theorem rgHi_in {od : Bool} {t : List Int} : inI (rgHi od t) := sorry
theorem u_X58_isIn {Q : Int → Th → Prop} {od : Bool} {at_ sm rg pcs e v today : Int} (h : xo Θ r = (62, [at_, sm, rg, pcs, e], 0, 0)) (hr : xo Θ rg = rgO od txt) (hv : -9223372036854775808 ≤ v ∧ v < 9223372036854775808) (ht : inI today) (hQ : Q (if inrF od txt v today = true then 1 else 0) Θ) : w2_X58_isIn ω d G r v today Θ Q := sorry
/-- whether a name is what is asked for -/
def pthF (t : List Int) (ph : Bool) (w : List Int) : Bool := if ph = true then decide (w = t) else fitF t w 0
theorem u_X58_fits {Q : Int → Th → Prop} {at_ sm rg pcs e st fld : Int} {ph : Bool} (hd : 12 ≤ d) (h : xo Θ r = (62, [at_, sm, rg, pcs, e], 0, 0)) (ha : xo Θ at_ = atC fld st ph) (hst : Str Θ st txt) (hx : Str Θ x w) (hQ : Q (if pthF txt ph w = true then 1 else 0) Θ) : w2_X58_fits ω d G r x Θ Q := sorry
def tyaF (b t : List Int) : Bool := (ptE b).any (fun v => htB (evTy v) t)
def encW : List Int := [101, 110, 99, 114, 121, 112, 116, 101, 100]
def mencW : List Int := [109, 117, 108, 116, 105, 112, 97, 114, 116, 47, 101, 110, 99, 114, 121, 112, 116, 101, 100]
/-- whether a mail has what is asked for -/
def hasF (nm : Int → List Int) (fl : Int → Int) (R : MaR) (today fld : Int) (t : List Int) (ph : Bool) : Bool :=
  if fld = 5 then htgF fl R t else if fld = 6 then decide (R.2.1 = t) else if fld = 7 then R.2.2.2.1.any (fun p => pthF t ph (nm p.1))
  else if fld = 10 then (if t = encW then tyaF R.2.2.1 mencW else htgF fl R t)
  else if fld = 11 then decide (dtF (ctH R.2.2.1) ≠ -9223372036854775808) && inrF true t (dtF (ctH R.2.2.1) / 86400) today
  else if fld = 12 then inrF false t (len R.2.2.1) 0 else tyaF R.2.2.1 (t.map lowB)
theorem u_X58_has {Q : Int → Th → Prop} {at_ sm rg pcs e st fld : Int} {ph : Bool} {F : List Int} (hd : 14 ≤ d) (h : xo Θ r = (62, [at_, sm, rg, pcs, e], 0, 0)) (ha : xo Θ at_ = atC fld st ph) (hst : Str Θ st txt) (hsm : Str Θ sm (txt.map lowB)) (hrg : fld = 11 ∨ fld = 12 → xo Θ rg = rgO (decide (fld = 11)) txt) (hw : wide txt = 0) (ho : xo Θ o = (15, F, 0, 0)) (htd : inI (gt F 16)) (hM : MaV Θ m R nm fl) (hl : R.2.2.2.2.length ≤ 1000000 ∧ len R.2.2.1 ≤ 1000000 ∧ R.2.2.2.1.length ≤ 1000000) (hfl : 4 < fld ∧ fld ≠ 9 ∧ fld ≤ 12)
    (hQ : Q (if hasF nm fl R (gt F 16) fld txt ph = true then 1 else 0) Θ) : w2_X58_has ω d G r o m Θ Q := sorry
end LFH

/-! 89.bc.lean.txt -/
/-! leaves of a query: their pieces -/
set_option maxRecDepth 100000
set_option maxHeartbeats 4000000
/-- the tools' rows of numbers and characters -/
def trI (ti to tt : Int) : It := ([ti, to, tt], fun Θ => ∃ li ci ei lo co eo lt ct et, xo Θ ti = (19, li, ci, ei) ∧ ¬ fz Θ ti ∧ xo Θ to = (19, lo, co, eo) ∧ ¬ fz Θ to ∧ xo Θ tt = (20, lt, ct, et) ∧ ¬ fz Θ tt ∧ ti ≠ to ∧ (8 ≤ ci ∧ ci ≤ 10000) ∧ (8 ≤ co ∧ co ≤ 10000) ∧ (2 ≤ ct ∧ ct ≤ 10000))
theorem trI_stb {ti to tt : Int} : stb (trI ti to tt) := sorry
theorem trI_live {Θ : Th} {ti to tt : Int} (h : (trI ti to tt).2 Θ) : live Θ [ti, to, tt] := sorry
theorem tl_TlO {Θ : Th} {tl ch arr st sb ti to tt : Int} {FT : List Int} (h1 : (tlI tl ch arr st sb FT).2 Θ) (h2 : (trI ti to tt).2 Θ) (hF : FT = [ch, st, ti, to, tt]) : TlO Θ tl ch arr st sb ti to tt := sorry
theorem TlO_tl {Θ : Th} {tl ch arr st sb ti to tt : Int} {FT : List Int} (h : TlO Θ tl ch arr st sb ti to tt) (hf : ¬ fz Θ tl) (hF : FT = [ch, st, ti, to, tt]) : (tlI tl ch arr st sb FT).2 Θ ∧ (trI ti to tt).2 Θ := sorry
theorem TlO.keep {Θ Θ1 : Th} {ex : Int → Prop} {a ch arr st sb ti to tt : Int} (h : TlO Θ a ch arr st sb ti to tt) (g : GrX ex Θ Θ1) (hx : ∀ z, ex z → kd Θ z = 62 ∨ kd Θ z = 3) : TlO Θ1 a ch arr st sb ti to tt := sorry
/-- a field was added to: the stemmer is another one -/
theorem TlO.stm {Θ Θ1 : Th} {a ch arr st sb ti to tt f p M c : Int} {v : FdV} (h : TlO Θ a ch arr st sb ti to tt) (g : GrX (exF f p st sb) Θ Θ1) (hF : FdO Θ1 f p st sb M v c) (kf : kd Θ f = 50 ∧ kd Θ p = 3) (_ : True) : TlO Θ1 a ch arr st sb ti to tt := sorry
/-- the query's text as characters; its pieces that are no addresses; the last one's stem, or a pattern -/
def qtT (txt : List Int) : List Int := tfF (utf8 txt)
def qtC (txt : List Int) : List Pc := (fdA (qtT txt) 2000 false fd0).1
def qtN (l : List Pc) : List Pc := l.filter (fun p => !p.2.2.2)
def qtS (l : List Pc) (e : List Int) : List Int := l.foldl (fun e p => if p.2.2.2 = true then e else p.2.1) e
def qtP (txt : List Int) (ph : Bool) : List (List Int) := if 0 ≤ starF txt ph then [] else (qtN (qtC txt)).map (fun p => p.1)
def qtE (txt : List Int) (ph : Bool) : List Int := if 0 ≤ starF txt ph then smS (qtT txt) else qtS (qtC txt) []
def qtG (txt : List Int) : Int := 7 * len txt + 99 * len (qtT txt) + cpZ (qtC txt).length + adK 0 (qtN (qtC txt)).length + 250
section LFC
variable {ω : AO} {d G : Nat} {Θ Θ1 : Th} {r o a s x : Int} {l w txt : List Int} {L : List It}
theorem u_X45_initM {Q : Th → Prop} {st M : Int} (hM : inI M) (hd : 5 ≤ d) (h : xo Θ a = (50, [-1, -1, 0, 0, 0, 0], 0, 0)) (hf : ¬ fz Θ a) (hs : -1 ≤ st) (hG : 1 ≤ G) (hQ : ∀ Θ' q, GrX (· = a) Θ Θ' → FdP Θ' a q st M fd0 → kd Θ q = 0 → q ≠ a → Q Θ') : w2_X45_init ω d G a st M Θ Q := sorry
abbrev exL (r arr stm sb ti to tt : Int) : Int → Prop := fun z => z = r ∨ z = arr ∨ z = stm ∨ z = sb ∨ z = ti ∨ z = to ∨ z = tt
theorem qtN_app {A B : List Pc} : qtN (A ++ B) = qtN A ++ qtN B := List.filter_append ..
theorem qtS_app {A B : List Pc} {e : List Int} : qtS (A ++ B) e = qtS B (qtS A e) := List.foldl_append ..
theorem qtN_1 {pc : Pc} : qtN [pc] = if pc.2.2.2 = true then [] else [pc] := sorry
theorem qtS_1 {pc : Pc} {e : List Int} : qtS [pc] e = if pc.2.2.2 = true then e else pc.2.1 := rfl
/-- the pieces are put down, one by one -/
theorem u_cut72 {Q : Th → Prop} {f p pl at_ sm rg cP eP : Int} {FF rs : List Int} {PS : List Pc} (hd : 8 ≤ d) (hne : p ≠ pl) (xf : xo Θ1 f = (50, FF, 0, 0)) (fp : gt FF 0 = p) (xp : xo Θ1 p = (3, rs, cP, eP)) (ha : all2 (PcO Θ1) rs PS) (hn : (PS.length : Int) ≤ 10000000) (g0 : Nat) (hG : (g0 : Int) + adK 0 (qtN PS).length ≤ (G : Int)) (kl : kd Θ1 pl = 3) (kr : kd Θ1 r = 62)
    (hQ : ∀ Θ' rw e c8 c9, GrX (fun z => z = r ∨ z = pl) Θ1 Θ' → xo Θ' r = (62, [at_, sm, rg, pl, e], 0, 0) → ¬ fz Θ' r → xo Θ' pl = (3, rw, c8, c9) → ¬ fz Θ' pl → all2 (Str Θ') rw ((qtN PS).map (fun p => p.1)) → Str Θ' e (qtS PS []) → Q Θ') :
    ∀ (N i : Nat) (Θ2 : Th) (rw : List Int) (e : Int) (g : Nat), PS.length - i = N → i ≤ PS.length → GrX (fun z => z = r ∨ z = pl) Θ1 Θ2 → xo Θ2 r = (62, [at_, sm, rg, pl, e], 0, 0) → ¬ fz Θ2 r → (∃ e9, xo Θ2 pl = (3, rw, adK 0 (qtN (PS.take i)).length, e9)) → ¬ fz Θ2 pl → all2 (Str Θ2) rw ((qtN (PS.take i)).map (fun p => p.1)) → Str Θ2 e (qtS (PS.take i) []) → (g : Int) ≤ (g0 : Int) + adK 0 (qtN (PS.take i)).length → W2_X58_cut_72 ω d G r f (i : Int) g Θ2 Q := sorry
/-- the text is cut; the leaf knows its pieces from then on -/
theorem u_X58_cut {Q : Th → Prop} {at_ sm rg e0 st fld tl ch arr stm sb ti to tt : Int} {ph : Bool} {F FT : List Int} {ir ia io it iq : Nat} (hd : 24 ≤ d) (hO : OwS Θ L) (hir : L[ir]? = some (obj r (62, [at_, sm, rg, -1, e0], 0, 0))) (hia : L[ia]? = some (obj at_ (atC fld st ph))) (hio : L[io]? = some (obj o (15, F, 0, 0))) (hit : L[it]? = some (tlI tl ch arr stm sb FT)) (hiq : L[iq]? = some (trI ti to tt)) (hFT : FT = [ch, stm, ti, to, tt]) (h4 : gt F 4 = tl) (hst : Str Θ st txt) (hb : byt txt) (hl : len txt ≤ 1900) (hq : len (qtT txt) ≤ 2000 ∧ (∀ x, x ∈ qtT txt → 0 ≤ x ∧ x < 65536)) (hn : ((qtC txt).length : Int) ≤ 1000000) (he0 : Str Θ e0 []) (hG : qtG txt ≤ (G : Int))
    (hQ : ∀ Θ' pl e rw c8 c9, OwT Θ L Θ' (L.set ir (obj r (62, [at_, sm, rg, pl, e], 0, 0))) → Fx Θ' pl (3, rw, c8, c9) → all2 (Str Θ') rw (qtP txt ph) → Str Θ' e (qtE txt ph) → 0 ≤ pl → Q Θ') : w2_X58_cut ω d G r o Θ Q := sorry
end LFC

/-! 89.bd.lean.txt -/
/-! leaves of a query: words -/
set_option maxRecDepth 100000
set_option maxHeartbeats 4000000
/-- documents that count -/
def liv (x : IxT) : List Int := lfD x.2.1 (dcS2 x.2.2.2.2.2.1) ++ x.2.2.2.2.1
/-- how long segments of such documents can be -/
def encOk (x : IxT) : Prop := ∀ D, D.Sublist (dcS2 x.2.2.2.2.2.1 ++ x.2.2.2.2.1) → len (encS (sgX (WVd x.1) D)) ≤ 1000000
def phL (WV : Int → Wv) (live : List Int) (fd : Int) (ws : List (List Int)) : List Int := match ws with
  | [] => []
  | w :: r => phN (fun w => live.flatMap (hitD WV (kyP fd w))) (live.flatMap (hitD WV (kyP fd w))) r
section IXS
variable {ω : AO} {d G : Nat} {Θ : Th} {a to toc nt fd w : Int} {rsM ww : List Int} {g0 : Int → Bool} {num : Int → Int} {x : IxT} {L M : List It}
theorem IxK.rel (J : IxK Θ a rsM x L) (hB : encOk x) (hK : 0 ≤ x.2.2.2.2.2.2 ∧ x.2.2.2.2.2.2 ≤ 1000) : ∃ sg ml cl tk tkc sc on ot bf sp rsC rb c0 c8 c9 SG SP, L = ixL a sg ml cl tk tkc sc on ot bf sp x.2.2.2.1 x.2.2.1 x.2.1 rsM rsC rb c0 (adK 0 rsM.length) (adK 0 rsM.length) c8 c9 SG SP ∧ IxR Θ (WVd x.1) x.2.2.2.2.2.2 SG rb x.2.2.2.2.1 rsC ∧ lvD x.2.1 SG x.2.2.2.2.1 = liv x := sorry
/-- what is said of documents' mails stands for all that has other items beside -/
theorem bt_fr {Θ' : Th} {toc' : Int} {g1 : Int → Bool} (hO : OwS Θ (btI to toc nt g0 :: (M ++ L))) (T : OwS Θ (btI to toc nt g0 :: L) → OwT Θ (btI to toc nt g0 :: L) Θ' (btI to toc' nt g1 :: L)) : OwT Θ (btI to toc nt g0 :: (M ++ L)) Θ' (btI to toc' nt g1 :: (M ++ L)) := sorry
theorem u_ixStem {Q : Th → Prop} (hd : 12 ≤ d) (hO : OwS Θ (btI to toc nt g0 :: (M ++ L))) (J : IxK Θ a rsM x L) (hB : encOk x) (hK : 0 ≤ x.2.2.2.2.2.2 ∧ x.2.2.2.2.2.2 ≤ 1000) (hw : Str Θ w ww) (hfd : 0 ≤ fd ∧ fd < 10) (hww : len ww ≤ 100000) (htot : len ((liv x).flatMap (hitD (WVd x.1) ([115] ++ [48 + fd] ++ ww))) ≤ 500000) (hM : MlR Θ rsM (liv x) num nt) (hnt : 0 ≤ nt ∧ nt ≤ 10000)
    (hG : 5 * len ww + 40 + 2 * len ((liv x).flatMap (hitD (WVd x.1) ([115] ++ [48 + fd] ++ ww))) ≤ (G : Int))
    (hQ : ∀ Θ' toc', OwT Θ (btI to toc nt g0 :: (M ++ L)) Θ' (btI to toc' nt (stmF (WVd x.1) (liv x) num ([115] ++ [48 + fd] ++ ww) g0) :: (M ++ L)) → Q Θ') : w2_X7_stem ω d G a fd w to Θ Q := sorry
theorem u_ixPhrase {Q : Th → Prop} {l2 cw ew : Int} {rw' : List Int} {ws : List (List Int)} (hd : 12 ≤ d) (hO : OwS Θ (btI to toc nt g0 :: (M ++ L))) (J : IxK Θ a rsM x L) (hB : encOk x) (hK : 0 ≤ x.2.2.2.2.2.2 ∧ x.2.2.2.2.2.2 ≤ 1000) (hl2 : Fx Θ l2 (3, rw', cw, ew)) (hws : all2 (Str Θ) rw' ws) (hfd : 0 ≤ fd ∧ fd < 10) (hww : ∀ w, w ∈ ws → len w ≤ 100000 ∧ len ((liv x).flatMap (hitD (WVd x.1) (kyP fd w))) ≤ 500000) (hwl : ws.length ≤ 1000000) (hw0 : ws ≠ []) (hM : MlR Θ rsM (liv x) num nt) (hnt : 0 ≤ nt ∧ nt ≤ 10000)
    (hG : phG (fun w => (liv x).flatMap (hitD (WVd x.1) (kyP fd w))) ws ≤ (G : Int))
    (hQ : ∀ Θ' toc', OwT Θ (btI to toc nt g0 :: (M ++ L)) Θ' (btI to toc' nt (mOf num g0 (phL (WVd x.1) (liv x) fd ws)) :: (M ++ L)) → Q Θ') : w2_X7_phrase ω d G a fd l2 to Θ Q := sorry
theorem u_ixMatch {Q : Th → Prop} {s q : Int} {srt pat : List Int} (hd : 13 ≤ d) (hO : OwS Θ (btI to toc nt g0 :: (M ++ L))) (J : IxK Θ a rsM x L) (hB : encOk x) (hK : 0 ≤ x.2.2.2.2.2.2 ∧ x.2.2.2.2.2.2 ≤ 1000) (hs : Str Θ s srt) (hsl : len srt = 2 ∧ wide srt = 0) (hp : Str Θ q pat) (hst : 0 ≤ idx pat 42 0) (hpl : len pat ≤ 100000) (hM : MlR Θ rsM (liv x) num nt) (hnt : 0 ≤ nt ∧ nt ≤ 10000)
    (htot : htN (WVd x.1) (mtP (mtH srt pat) pat) (liv x) ≤ 500000) (hG : 6 * len pat + 60 + 2 * htN (WVd x.1) (mtP (mtH srt pat) pat) (liv x) ≤ (G : Int))
    (hQ : ∀ Θ' toc', OwT Θ (btI to toc nt g0 :: (M ++ L)) Θ' (btI to toc' nt (stmP (WVd x.1) (liv x) num (mtP (mtH srt pat) pat) g0) :: (M ++ L)) → Q Θ') : w2_X7_matching ω d G a s q to Θ Q := sorry
theorem MlR.keep2 {Θ1 : Th} {ex : Int → Prop} {live : List Int} (h : MlR Θ rsM live num nt) (g : GrX ex Θ Θ1) (hk : ∀ z, ex z → kd Θ z ≠ 29) : MlR Θ1 rsM live num nt := h.keep g hk
end IXS

/-! 89.be.lean.txt -/
/-! leaves of a query: words (the walk) -/
set_option maxRecDepth 100000
set_option maxHeartbeats 4000000
/-- a leaf that knows its pieces -/
def CutS (Θ : Th) (pl e : Int) (txt : List Int) (ph : Bool) : Prop := 0 ≤ pl ∧ (∃ rw c8 c9, Fx Θ pl (3, rw, c8, c9) ∧ all2 (Str Θ) rw (qtP txt ph)) ∧ Str Θ e (qtE txt ph)
theorem CutS.le {Θ Θ1 : Th} {pl e : Int} {txt : List Int} {ph : Bool} (h : CutS Θ pl e txt ph) (L : Le Θ Θ1) : CutS Θ1 pl e txt ph := sorry
/-- documents' mails are items -/
def MlM (M : List It) (rsM live : List Int) (num : Int → Int) : Prop := ∀ k, k ∈ live → k < len rsM ∧ ∃ MF, obj (gt rsM k) (29, MF, 0, 0) ∈ M ∧ gt MF 0 = num k ∧ 0 ≤ num k ∧ num k < 256
theorem MlM.at {Θ : Th} {M : List It} {rsM live : List Int} {num : Int → Int} (h : MlM M rsM live num) (hO : OwS Θ M) : MlR Θ rsM live num 4 := sorry
/-- pattern, words: what is found, what it costs, what must hold -/
def patP (c fd : Int) (txt : List Int) (ph : Bool) : List Int → Bool := mtP (mtH ([c] ++ [48 + fd]) (qtE txt ph)) (qtE txt ph)
def wdsF (WV : Int → Wv) (live : List Int) (num : Int → Int) (fd : Int) (txt : List Int) (ph : Bool) (g : Int → Bool) : Int → Bool :=
  if 0 ≤ starF txt ph then stmP WV live num (patP 97 fd txt ph) (stmP WV live num (patP 112 fd txt ph) g)
  else if (qtP txt ph).length = 1 ∧ ph = false then stmF WV live num ([115] ++ [48 + fd] ++ qtE txt ph) g
  else if qtP txt ph = [] then g else mOf num g (phL WV live fd (qtP txt ph))
def wdsG (WV : Int → Wv) (live : List Int) (fd : Int) (txt : List Int) (ph : Bool) : Int :=
  if 0 ≤ starF txt ph then 160 + 12 * len (qtE txt ph) + 2 * htN WV (patP 112 fd txt ph) live + 2 * htN WV (patP 97 fd txt ph) live
  else if (qtP txt ph).length = 1 ∧ ph = false then 5 * len (qtE txt ph) + 40 + 2 * len (live.flatMap (hitD WV ([115] ++ [48 + fd] ++ qtE txt ph)))
  else if qtP txt ph = [] then 0 else phG (fun w => live.flatMap (hitD WV (kyP fd w))) (qtP txt ph)
def wdsO (WV : Int → Wv) (live : List Int) (fd : Int) (txt : List Int) (ph : Bool) : Prop :=
  (0 ≤ starF txt ph → 0 ≤ idx (qtE txt ph) 42 0 ∧ htN WV (patP 112 fd txt ph) live ≤ 500000 ∧ htN WV (patP 97 fd txt ph) live ≤ 500000) ∧ len (qtE txt ph) ≤ 100000 ∧
  len (live.flatMap (hitD WV ([115] ++ [48 + fd] ++ qtE txt ph))) ≤ 500000 ∧ (∀ w, w ∈ qtP txt ph → len w ≤ 100000 ∧ len (live.flatMap (hitD WV (kyP fd w))) ≤ 500000) ∧ (qtP txt ph).length ≤ 1000000
theorem htN_nn {WV : Int → Wv} {P : List Int → Bool} : ∀ {D : List Int}, 0 ≤ htN WV P D := sorry
theorem wdsG_nn {WV : Int → Wv} {live : List Int} {fd : Int} {txt : List Int} {ph : Bool} : 0 ≤ wdsG WV live fd txt ph := sorry
section WDS
variable {ω : AO} {d G : Nat} {Θ Θ1 : Th} {r o a to toc fd : Int} {rsM txt : List Int} {g0 : Int → Bool} {num : Int → Int} {x : IxT} {L M : List It}
/-- a sort is spelt: one character, a digit -/
theorem bld2 {Θ26 Θ30 : Th} {v w c : Int} (hc : 0 ≤ c ∧ c < 256) (b : Bl Θ) (u : nt Θ ≤ v ∧ 0 ≤ v) (t26 : Θ26 = nu Θ v (201, [], 0, 0)) (t30 : Θ30 = uq Θ26 v (1, [], 16, 0)) (h : Str Θ30 w [c]) :
    ¬ fz Θ30 v ∧ bC (cp Θ30 v) (len (vv Θ30 v) + len (vv Θ30 w)) = 16 ∧ bK 16 (max (cx Θ30 v) (wide (vv Θ30 w))) = 16 ∧ bK (cp Θ30 v) (cx Θ30 v) = 16 ∧ max (cx Θ30 v) (wide (vv Θ30 w)) = 0 ∧ vv Θ30 v ++ vv Θ30 w = [c] ∧ ∀ Θ35, Θ35 = uq Θ30 v (1, [c], 16, 0) → Gr Θ Θ35 ∧ xo Θ35 v = (1, [c], 16, 0) ∧ ¬ fz Θ35 v := sorry
theorem u_wd12 {Q : Th → Prop} {at_ sm rg pl e st fld : Int} {ph : Bool} {F : List Int} {ir ia io : Nat} {g : Nat} (hd : 16 ≤ d) (hO : OwS Θ (btI to toc 4 g0 :: (M ++ L))) (hir : M[ir]? = some (obj r (62, [at_, sm, rg, pl, e], 0, 0))) (hia : M[ia]? = some (obj at_ (atC fld st ph))) (hio : M[io]? = some (obj o (15, F, 0, 0))) (h7 : gt F 7 = a) (hst : Str Θ st txt) (hC : CutS Θ pl e txt ph) (J : IxK Θ a rsM x L) (hB : encOk x) (hK : 0 ≤ x.2.2.2.2.2.2 ∧ x.2.2.2.2.2.2 ≤ 1000) (hML : MlM M rsM (liv x) num) (hfd : 0 ≤ fd ∧ fd < 10) (hW : wdsO (WVd x.1) (liv x) fd txt ph) (hG : (g : Int) + wdsG (WVd x.1) (liv x) fd txt ph ≤ (G : Int))
    (hQ : ∀ Θ' toc', OwT Θ (btI to toc 4 g0 :: (M ++ L)) Θ' (btI to toc' 4 (wdsF (WVd x.1) (liv x) num fd txt ph g0) :: (M ++ L)) → Q Θ') : W2_X58_words_12 ω d G r o fd to g Θ Q := sorry
theorem MlM.set {M : List It} {live : List Int} {ir : Nat} {c c' : Cl} (h : MlM M rsM live num) (hO : OwS Θ M) (hir : M[ir]? = some (obj r c)) (hk : c.1 ≠ 29) : MlM (M.set ir (obj r c')) rsM live num := sorry
/-- what a leaf is: it knows its pieces, or not yet -/
def LfC (Θ : Th) (pl e : Int) (txt : List Int) (ph : Bool) : Prop := (pl = -1 ∧ Str Θ e []) ∨ CutS Θ pl e txt ph
theorem LfC.le {Θ Θ1 : Th} {pl e : Int} {txt : List Int} {ph : Bool} (h : LfC Θ pl e txt ph) (L : Le Θ Θ1) : LfC Θ1 pl e txt ph := sorry
/-- what must hold of a text -/
def qtO (txt : List Int) : Prop := byt txt ∧ len txt ≤ 1900 ∧ (len (qtT txt) ≤ 2000 ∧ (∀ x, x ∈ qtT txt → 0 ≤ x ∧ x < 65536)) ∧ ((qtC txt).length : Int) ≤ 1000000
theorem u_X58_words {Q : Th → Prop} {at_ sm rg pl e st fld tl ch arr stm sb ti to_ tt : Int} {ph : Bool} {F FT : List Int} {ir ia io it iq : Nat} (hd : 26 ≤ d) (hO : OwS Θ (btI to toc 4 g0 :: (M ++ L))) (hir : M[ir]? = some (obj r (62, [at_, sm, rg, pl, e], 0, 0))) (hia : M[ia]? = some (obj at_ (atC fld st ph))) (hio : M[io]? = some (obj o (15, F, 0, 0))) (hit : M[it]? = some (tlI tl ch arr stm sb FT)) (hiq : M[iq]? = some (trI ti to_ tt)) (hFT : FT = [ch, stm, ti, to_, tt]) (hne : ia ≠ ir ∧ io ≠ ir) (h4 : gt F 4 = tl) (h7 : gt F 7 = a) (hst : Str Θ st txt) (hq : qtO txt) (hC : LfC Θ pl e txt ph) (J : IxK Θ a rsM x L) (hB : encOk x) (hK : 0 ≤ x.2.2.2.2.2.2 ∧ x.2.2.2.2.2.2 ≤ 1000) (hML : MlM M rsM (liv x) num) (hfd : 0 ≤ fd ∧ fd < 10) (hW : wdsO (WVd x.1) (liv x) fd txt ph) (hG : (if pl < 0 then qtG txt else 0) + wdsG (WVd x.1) (liv x) fd txt ph ≤ (G : Int)) (hqG : 0 ≤ qtG txt)
    (hQ : ∀ Θ' toc' pl' e', OwT Θ (btI to toc 4 g0 :: (M ++ L)) Θ' (btI to toc' 4 (wdsF (WVd x.1) (liv x) num fd txt ph g0) :: (M.set ir (obj r (62, [at_, sm, rg, pl', e'], 0, 0)) ++ L)) → CutS Θ' pl' e' txt ph → Q Θ') : w2_X58_words ω d G r o fd to Θ Q := sorry
end WDS

/-! 89.bf.lean.txt -/
/-! asking: what trees mean; a leaf is asked -/
set_option maxRecDepth 100000
set_option maxHeartbeats 4000000
def opD (sg : Int) (b c : Bool) : Bool := if sg = -4 then b || c else if sg = -3 then b && c else xor b c
def stD (ev : Evl) (j : Int) (st : List Bool) (t : Int × Ato) : List Bool :=
  if t.1 = 0 then ev t.2 j :: st else if t.1 = 1 then (match st with | b :: r => (!b) :: r | [] => []) else (match st with | c :: b :: r => opD t.1 b c :: r | r => r)
/-- what a tree says of mail j -/
def tvD (ev : Evl) (T : Den) (j : Int) : Bool := (T.foldl (stD ev j) []).headD false
def wfD (T : Den) : Prop := ∀ ev j st, T.foldl (stD ev j) st = tvD ev T j :: st
theorem tvD_lf {ev : Evl} {a : Ato} {j : Int} : tvD ev (dLf a) j = ev a j := rfl
theorem wfD.lf {a : Ato} : wfD (dLf a) := fun ev j st => rfl
theorem tvD_no {ev : Evl} {T : Den} {j : Int} (h : wfD T) : tvD ev (dNo T) j = !tvD ev T j := sorry
theorem wfD.no {T : Den} (h : wfD T) : wfD (dNo T) := sorry
theorem stD_op {ev : Evl} {j sg : Int} {b c : Bool} {st : List Bool} {a : Ato} (h : sg = -3 ∨ sg = -4 ∨ sg = -5) : stD ev j (c :: b :: st) (sg, a) = opD sg b c :: st := sorry
theorem tvD_cmb {ev : Evl} {T U : Den} {sg j : Int} (hT : wfD T) (hU : wfD U) (h : sg = -3 ∨ sg = -4 ∨ sg = -5) : tvD ev (cmb sg T U) j = opD sg (tvD ev T j) (tvD ev U j) := sorry
theorem wfD.cmb {T U : Den} {sg : Int} (hT : wfD T) (hU : wfD U) (h : sg = -3 ∨ sg = -4 ∨ sg = -5) : wfD (cmb sg T U) := sorry
/-- the operands so far -/
theorem fdD_take {sg : Int} {C : List (Den × List It)} {k : Nat} {z : Den × List It} (hk : 0 < k) (hz : C[k]? = some z) : fdD sg (C.take (k + 1)) = cmb sg (fdD sg (C.take k)) z.1 := sorry
theorem TrR.wf {Θ : Th} : ∀ (n : Nat) {r : Int} {T : Den} {LI : List It}, TrR Θ n r T LI → wfD T := sorry
/-- what asking costs -/
def coD (c : Ato → Int) : Den → Int
  | [] => 0
  | t :: r => (if t.1 = 0 then c t.2 else if t.1 = 1 then 4 else 0) + coD c r
theorem coD_app {c : Ato → Int} : ∀ {A B : Den}, coD c (A ++ B) = coD c A + coD c B := sorry
theorem coD_nn {c : Ato → Int} : ∀ {A : Den}, (∀ t, t ∈ A → t.1 = 0 → 0 ≤ c t.2) → 0 ≤ coD c A := sorry
/-- fields of words -/
def fl0 (fld : Int) : Int := if fld = 0 then 2 else if fld = 9 then 4 else fld - 1
def fl1 (fld : Int) : Int := if fld = 0 then 3 else fl0 fld
def wdQ (fld : Int) : Bool := decide (fld ≤ 4 ∨ fld = 9)
def wdsA (WV : Int → Wv) (live : List Int) (num : Int → Int) (a : Ato) : Int → Bool :=
  if a.1 = 0 then wdsF WV live num 3 a.2.1 a.2.2 (wdsF WV live num 2 a.2.1 a.2.2 (fun _ => false)) else wdsF WV live num (fl0 a.1) a.2.1 a.2.2 (fun _ => false)
/-- what an atom says of mail j -/
def evA (WV : Int → Wv) (live : List Int) (num : Int → Int) (nm : Int → List Int) (fl : Int → Int) (MR : Int → MaR) (n today : Int) : Evl := fun a j => thF MR n j && (if wdQ a.1 = true then wdsA WV live num a j else hasF nm fl (MR j) today a.1 a.2.1 a.2.2)
def lfG (WV : Int → Wv) (live : List Int) (a : Ato) : Int := 3 + (if wdQ a.1 = true then qtG a.2.1 + wdsG WV live (fl0 a.1) a.2.1 a.2.2 + (if a.1 = 0 then wdsG WV live 3 a.2.1 a.2.2 else 0) else 0)
def lfO (WV : Int → Wv) (live : List Int) (a : Ato) : Prop := wdQ a.1 = true → qtO a.2.1 ∧ 0 ≤ qtG a.2.1 ∧ ∀ f, 0 ≤ f → f < 5 → wdsO WV live f a.2.1 a.2.2
/-- what asking needs of the works' items -/
def AskM (M : List It) (o : Int) (F : List Int) (a : Int) (rsM ML : List Int) (x : IxT) (num : Int → Int) (MR : Int → MaR) : Prop :=
  obj o (15, F, 0, 0) ∈ M ∧ (∃ tl ch arr stm sb ti to_ tt FT, tlI tl ch arr stm sb FT ∈ M ∧ trI ti to_ tt ∈ M ∧ FT = [ch, stm, ti, to_, tt] ∧ gt F 4 = tl) ∧ gt F 7 = a ∧ encOk x ∧ (0 ≤ x.2.2.2.2.2.2 ∧ x.2.2.2.2.2.2 ≤ 1000) ∧ MlM M rsM (liv x) num ∧ inI (gt F 16) ∧ len ML ≤ 250 ∧
  (∀ j, 0 ≤ j → j < len ML → (MR j).2.2.2.2.length ≤ 1000000 ∧ len (MR j).2.2.1 ≤ 1000000 ∧ (MR j).2.2.2.1.length ≤ 1000000) ∧ ∀ k, k ∈ liv x → thF MR (len ML) (num k) = true
theorem AskM.up {X M : List It} {o a : Int} {F rsM ML : List Int} {x : IxT} {num : Int → Int} {MR : Int → MaR} (h : AskM M o F a rsM ML x num MR) : AskM (X ++ M) o F a rsM ML x num MR := sorry
/-- words are found in mails that are there -/
theorem wdsF_in {WV : Int → Wv} {live : List Int} {num : Int → Int} {fd : Int} {txt : List Int} {ph : Bool} {g : Int → Bool} {th : Int → Bool} (hok : ∀ k, k ∈ live → wvOk (WV k)) (hth : ∀ k, k ∈ live → th (num k) = true) (hg : ∀ j, g j = true → th j = true) : ∀ j, wdsF WV live num fd txt ph g j = true → th j = true := sorry
/-! 89.bg.lean.txt -/
/-! asking: a leaf -/
set_option maxRecDepth 100000
set_option maxHeartbeats 4000000
section ASK
variable {ω : AO} {d G : Nat} {Θ Θ0 : Th} {r o a : Int} {F rsM ML : List Int} {num : Int → Int} {x : IxT} {L M X LI : List It} {T : Den} {MR : Int → MaR} {nm : Int → List Int} {fl : Int → Int}
theorem bt_as {Θ1 : Th} {A B : List It} {b c n : Int} {f g : Int → Bool} (h : OwT Θ A Θ1 (btI b c n f :: B)) (hh : ∀ k, 0 ≤ k → g k = f k) : OwT Θ A Θ1 (btI b c n g :: B) := sorry
theorem u_ask_leaf {Q : Int → Th → Prop} (hd : 30 ≤ d) (hL : LfR Θ r T LI) (hO : OwS Θ (LI ++ (M ++ L))) (E : AskM M o F a rsM ML x num MR) (J : IxK Θ a rsM x L) (hWs : ∀ Θ', Le Θ Θ' → OwS Θ' M → WsV Θ' o F ML MR nm fl) (hA : ∀ t, t ∈ T → t.1 = 0 → lfO (WVd x.1) (liv x) t.2) (hG : coD (lfG (WVd x.1) (liv x)) T ≤ (G : Int))
    (hQ : ∀ b bc Θ', OwT Θ (LI ++ (M ++ L)) Θ' (btI b bc 4 (tvD (evA (WVd x.1) (liv x) num nm fl MR (len ML) (gt F 16)) T) :: (M ++ L)) → 0 ≤ b → Q b Θ') : kd Θ r = 62 ∧ w2_X58_ask ω d G r o Θ Q := sorry
end ASK

/-! 89.bh.lean.txt -/
/-! asking: all trees -/
set_option maxRecDepth 100000
set_option maxHeartbeats 4000000
/-- what a row of trees costs -/
def coS (c : Ato → Int) : List (Den × List It) → Int
  | [] => 0
  | y :: r => coD c y.1 + coS c r
theorem coD_cmb {c : Ato → Int} {sg : Int} {T U : Den} (h : sg = -3 ∨ sg = -4 ∨ sg = -5) : coD c (cmb sg T U) = coD c T + coD c U := sorry
theorem coD_fd {c : Ato → Int} {sg : Int} (h : sg = -3 ∨ sg = -4 ∨ sg = -5) : ∀ {C : List (Den × List It)}, coD c (fdD sg C) = coS c C := sorry
theorem coS_nn {c : Ato → Int} : ∀ {C : List (Den × List It)}, (∀ y, y ∈ C → 0 ≤ coD c y.1) → 0 ≤ coS c C := sorry
theorem fdD_mem {sg : Int} {t : Int × Ato} : ∀ {C : List (Den × List It)} {z : Den × List It}, z ∈ C → t ∈ z.1 → t ∈ fdD sg C := sorry
theorem lfG_nn {WV : Int → Wv} {live : List Int} {a : Ato} (h : lfO WV live a) : 0 ≤ lfG WV live a := sorry
/-- what is asked of the atoms of a tree -/
def deO (WV : Int → Wv) (live : List Int) (T : Den) : Prop := ∀ t, t ∈ T → t.1 = 0 → lfO WV live t.2
theorem deO.nn {WV : Int → Wv} {live : List Int} {T : Den} (h : deO WV live T) : 0 ≤ coD (lfG WV live) T := coD_nn (fun t ht h0 => lfG_nn (h t ht h0))
theorem ors3 {ω : AO} {d G g : Nat} {x o : Int} {Θ : Th} {Q : Nat → Int → Th → Prop} (n : Nat) (hn : g + n ≤ G) (h : (kd Θ x = 62 ∧ w2_X58_ask ω d n x o Θ (Q n)) ∨ (kd Θ x = 63 ∧ w2_X59_ask ω d n x o Θ (Q n)) ∨ (kd Θ x = 64 ∧ w2_X60_ask ω d n x o Θ (Q n))) :
    (kd Θ x = 62 ∧ ∃ m : Nat, (g + m ≤ G) ∧ w2_X58_ask ω d m x o Θ (Q m)) ∨ (kd Θ x = 63 ∧ ∃ m : Nat, (g + m ≤ G) ∧ w2_X59_ask ω d m x o Θ (Q m)) ∨ (kd Θ x = 64 ∧ ∃ m : Nat, (g + m ≤ G) ∧ w2_X60_ask ω d m x o Θ (Q m)) := sorry
theorem TrR.kd {n : Nat} {Θ : Th} {y : Int} {T : Den} {LI X : List It} (h : TrR Θ n y T LI) (hO : OwS Θ (LI ++ X)) : y < 0 ∨ kd Θ y ∈ [62, 63, 64] := sorry
section ASKT
variable {ω : AO} {Θ0 : Th} {o a : Int} {F rsM ML : List Int} {num : Int → Int} {x : IxT} {L M : List It} {MR : Int → MaR} {nm : Int → List Int} {fl : Int → Int}
theorem u_ask (E : AskM M o F a rsM ML x num MR) (J : IxK Θ0 a rsM x L) (hWs : ∀ Θ', Le Θ0 Θ' → OwS Θ' M → WsV Θ' o F ML MR nm fl) : ∀ (n : Nat) {d G : Nat} {Θ : Th} {r : Int} {T : Den} {LI X : List It} {Q : Int → Th → Prop}, Le Θ0 Θ → TrR Θ n r T LI → n + 40 ≤ d → OwS Θ (LI ++ ((X ++ M) ++ L)) → deO (WVd x.1) (liv x) T → coD (lfG (WVd x.1) (liv x)) T ≤ (G : Int) →
    (∀ b bc Θ', OwT Θ (LI ++ ((X ++ M) ++ L)) Θ' (btI b bc 4 (fun j => thF MR (len ML) j && tvD (evA (WVd x.1) (liv x) num nm fl MR (len ML) (gt F 16)) T j) :: ((X ++ M) ++ L)) → -1 ≤ b → Q b Θ') →
    (kd Θ r = 62 ∧ w2_X58_ask ω d G r o Θ Q) ∨ (kd Θ r = 63 ∧ w2_X59_ask ω d G r o Θ Q) ∨ (kd Θ r = 64 ∧ w2_X60_ask ω d G r o Θ Q) := sorry
end ASKT

/-! 89.bi.lean.txt -/
/-! the reader of a query: the whole -/
set_option maxRecDepth 100000
set_option maxHeartbeats 4000000
/-- a query that isn't empty -/
def allQ (l : List Int) (N : Nat) : PRes := prB (qS l N (-4) 0 [] 0 (skQ l 0) 0) (fun U k c => if skQ l k = len l then ((0, 0), U, skQ l k, c, 0) else pX (wrW l (skQ l k)) (skQ l k) 6)
section RAL
variable {ω : AO} {d G : Nat} {Θ Θ1 Θ0 : Th} {L0 L : List It} {r s k c x : Int} {l w : List Int}
theorem u_X53_all {Q : Int → Th → Prop} {QX : String → Int → Th → Prop} {N : Nat} {R : PRes} (hs9 : noTr ω) (hO : OwS Θ (rdI r s 0 0 :: L)) (hs : Str Θ s l) (hl : len l ≤ 100000) (hb : byt l) (hR : allQ l N = R) (h99 : (qS l N (-4) 0 [] 0 (skQ l 0) 0).1.1 ≠ 99) (hd : 180 ≤ d) (hG : R.2.2.2.2 ≤ (G : Int))
    (hQ0 : skQ l 0 = len l → ∀ Θ' k' c', OwT Θ (rdI r s 0 0 :: L) Θ' (rdI r s k' c' :: L) → Q (-1) Θ')
    (hQ : skQ l 0 ≠ len l → R.1.1 = 0 → ∀ y Θ' LI k' c', OwT Θ (rdI r s 0 0 :: L) Θ' (rdI r s k' c' :: (LI ++ L)) → TrH (dq (-4) 0) Θ' y R.2.1 LI → 0 ≤ y → Q y Θ')
    (hX : skQ l 0 ≠ len l → R.1.1 ≠ 0 → ∀ q Θ', OwT Θ (rdI r s 0 0 :: L) Θ' L → FltO Θ' q R.1.1 R.1.2 → QX "MailWorks$Fault" q Θ') : x2_X53_all ω d G r Θ Q QX := sorry
end RAL

/-! 89.bj.lean.txt -/
/-! the reader of a query: it moves on; enough fuel (plain) -/
set_option maxRecDepth 100000
set_option maxHeartbeats 4000000
def qMo (m : Int) : Prop := m = 0 ∨ m = 1 ∨ (m = -3 ∨ m = -4 ∨ m = -5) ∨ (m = 7 ∨ m = 6 ∨ m = 5)
theorem dq_in {m deep : Int} (h : 0 ≤ deep ∧ deep ≤ 20) : 43 ≤ dq m deep ∧ dq m deep ≤ 167 := sorry
theorem prB_at {r : PRes} {f : Den → Int → Int → PRes} (h : (prB r f).1.1 = 0) : r.1.1 = 0 ∧ (f r.2.1 r.2.2.1 r.2.2.2.1).1.1 = 0 ∧ (prB r f).2.2.1 = (f r.2.1 r.2.2.1 r.2.2.2.1).2.2.1 := sorry
theorem prB_99 {r : PRes} {f : Den → Int → Int → PRes} (h : r.1.1 ≠ 99) (hf : r.1.1 = 0 → (f r.2.1 r.2.2.1 r.2.2.2.1).1.1 ≠ 99) : (prB r f).1.1 ≠ 99 := sorry
theorem wrW_99 {l : List Int} {k : Int} : wrW l k ≠ 99 ∧ wrW l k ≠ 0 := sorry
theorem txW_99 {l : List Int} {k : Int} : txW l k ≠ 99 ∧ txW l k ≠ 0 := sorry
theorem atF_99 {l : List Int} {k c : Int} : (atF l k c).1.1 ≠ 99 := sorry
theorem atF_pos {l : List Int} {k c : Int} (h0 : 0 ≤ k) (h1 : k ≤ len l) (h : (atF l k c).1.1 = 0) : k < (atF l k c).2.2.1 ∧ (atF l k c).2.2.1 ≤ len l := sorry
theorem qS_go {l : List Int} : ∀ (N : Nat) (m deep : Int) (T : Den) (n : Nat) (k c : Int), qMo m → 0 ≤ k ∧ k ≤ len l → 0 ≤ deep ∧ deep ≤ 20 → (m = 1 → k < len l) →
    ((qS l N m deep T n k c).1.1 = 0 → (m ≤ 1 → k < (qS l N m deep T n k c).2.2.1) ∧ k ≤ (qS l N m deep T n k c).2.2.1 ∧ (qS l N m deep T n k c).2.2.1 ≤ len l) ∧ (200 * (len l - k) + dq m deep ≤ (N : Int) → (qS l N m deep T n k c).1.1 ≠ 99) := sorry
/-- so much fuel is enough -/
def qFu (l : List Int) : Nat := (200 * len l + 200).toNat
theorem qS_fuel {l : List Int} : (qS l (qFu l) (-4) 0 [] 0 (skQ l 0) 0).1.1 ≠ 99 := sorry
