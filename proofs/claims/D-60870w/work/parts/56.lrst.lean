/-! 51.lift.lean.txt -/
/-! level 2: what the JDK's methods do to objects: tools -/
set_option maxRecDepth 100000
/-- of what was there nothing but ex is altered, nothing is frozen -/
def GrX (ex : Int → Prop) (Θ Θ' : Th) : Prop := Le Θ Θ' ∧ Sm ex Θ Θ' ∧ ∀ b, 0 < kd Θ b → fz Θ' b → fz Θ b
/-- nothing that was there is altered -/
def Gr (Θ Θ' : Th) : Prop := GrX no Θ Θ'
section GR
variable {ex : Int → Prop} {Θ Θ1 Θ2 : Th} {v b : Int} {c : Cl} {l : List Int} {t k : Nat}
theorem Sm.kd0 (h : Sm ex Θ Θ1) (hb : 0 < kd Θ b) (hx : ¬ ex b) : kd Θ1 b = kd Θ b := congrArg (fun z => z.1) (h b hb hx)
theorem GrX.rf : GrX ex Θ Θ := ⟨Le.rf, Sm.rf, fun _ _ h => h⟩
theorem GrX.str (h : GrX ex Θ Θ1) (hs : Str Θ b l) : Str Θ1 b l := hs.le h.1
theorem GrX.at (h : GrX ex Θ Θ1) (hx : xo Θ b = c) (h0 : 0 < c.1) (hn : ¬ ex b) : xo Θ1 b = c := sorry
theorem GrX.nf (h : GrX ex Θ Θ1) (hk : 0 < kd Θ b) (hf : ¬ fz Θ b) : ¬ fz Θ1 b := fun z => hf (h.2.2 b hk z)
theorem Gr.x (h : Gr Θ Θ1) : GrX ex Θ Θ1 := ⟨h.1, fun b hb _ => h.2.1 b hb (fun z => z), h.2.2⟩
/-- what is still there of ex may be altered -/
theorem GrX.tr {ex2 : Int → Prop} (h : GrX ex Θ Θ1) (h2 : GrX ex2 Θ1 Θ2) (he : ∀ b, 0 < kd Θ b → ex2 b → ex b) (hp : ∀ b, 0 < kd Θ b → ex b → 0 < kd Θ1 b) : GrX ex Θ Θ2 := sorry
/-- the one that may be altered is a whole object -/
theorem GrX.tr1 {a : Int} (h : GrX (· = a) Θ Θ1) (h2 : GrX (· = a) Θ1 Θ2) (hk : 0 < kd Θ a ∧ kd Θ a < 200) : GrX (· = a) Θ Θ2 := sorry
theorem GrX.up {a : Int} (h : GrX ex Θ Θ1) (he : ex a) (hf : ¬ fz Θ1 a) (hk : kd Θ1 a < 200 → c.1 = kd Θ1 a) (t : Θ2 = uq Θ1 a c) : GrX ex Θ Θ2 := sorry
theorem GrX.oldX (h : GrX ex Θ Θ1) (hx : ¬ ex v) (hv : kd Θ1 v = 0) : kd Θ v = 0 := sorry
theorem GrX.nuX (h : GrX ex Θ Θ1) (b : Bl Θ1) (u : nt Θ1 ≤ v) (hx : ¬ ex v) (t : Θ2 = nu Θ1 v c) : GrX ex Θ Θ2 ∧ kd Θ v = 0 ∧ ¬ fz Θ2 v := sorry
theorem GrX.uqX (h : GrX ex Θ Θ1) (hv : kd Θ v = 0) (hf : ¬ fz Θ1 v) (hk : kd Θ1 v < 200 → c.1 = kd Θ1 v) (t : Θ2 = uq Θ1 v c) : GrX ex Θ Θ2 := sorry
theorem Gr.rf : Gr Θ Θ := GrX.rf
theorem Gr.tr (h : Gr Θ Θ1) (h2 : Gr Θ1 Θ2) : Gr Θ Θ2 := GrX.tr h h2 (fun _ _ z => z) (fun _ _ z => z.elim)
theorem Gr.old (h : Gr Θ Θ1) (hv : kd Θ1 v = 0) : kd Θ v = 0 := GrX.oldX h (fun z => z) hv
theorem Gr.nu (h : Gr Θ Θ1) (b : Bl Θ1) (u : nt Θ1 ≤ v) (t : Θ2 = nu Θ1 v c) : Gr Θ Θ2 ∧ kd Θ v = 0 ∧ ¬ fz Θ2 v := GrX.nuX h b u (fun z => z) t
theorem Gr.uq (h : Gr Θ Θ1) (hv : kd Θ v = 0) (hf : ¬ fz Θ1 v) (hk : kd Θ1 v < 200 → c.1 = kd Θ1 v) (t : Θ2 = uq Θ1 v c) : Gr Θ Θ2 := GrX.uqX h hv hf hk t
theorem Gr.str (h : Gr Θ Θ1) (hs : Str Θ b l) : Str Θ1 b l := hs.le h.1
theorem Gr.at (h : Gr Θ Θ1) (hx : xo Θ b = c) (h0 : 0 < c.1) : xo Θ1 b = c := GrX.at h hx h0 (fun z => z)
theorem Gr.nf (h : Gr Θ Θ1) (hk : 0 < kd Θ b) (hf : ¬ fz Θ b) : ¬ fz Θ1 b := GrX.nf h hk hf
end GR
/-- a new frozen object -/
def nf (Θ : Th) (r : Int) (c : Cl) (n : Int) : Th := (fun b => if b = r then c else Θ.1 b, fun b => Θ.2.1 b ∨ b = r, n)
section LIFT
variable {ω : AO} {S S' : AS} {Θ Θ' : Th} {ow ow' : Int → Int} {a b k x i n r : Int} {t : Nat} {c e : Int} {l l' : List Int} {cl : Cl}
theorem RV.str (h : RV ω S Θ ow a (2, l, 0, 0)) : StrC S a l ∧ len l ≤ 15000000 ∧ HsC ω S a l ∧ kd Θ (ct S a 0) = 0 ∧ ow (ct S a 0) = -2 := sorry
theorem StrC.lnb (h : StrC S a l) (hl : len l ≤ 15000000) : ln S (ct S a 0) ≤ 30000000 := sorry
theorem R2.str (h : R2 ω S Θ) (hs : Str Θ a l) : StrC S a l ∧ len l ≤ 15000000 ∧ 0 ≤ a ∧ ln S (ct S a 0) ≤ 30000000 := sorry
theorem R2.strv (h : R2 ω S Θ) (hk : kd Θ a = 2) : Str Θ a (vv Θ a) := sorry
theorem RV.lst (h : RV ω S Θ ow a (3, l, c, e)) : LstC ω S a l c ∧ ct S a 0 = e ∧ kd Θ (ct S a 1) = 0 ∧ (c = 0 ∧ ct S a 1 = ev ω ∨ ow (ct S a 1) = a) := sorry
theorem RV.mkL (h : LstC ω S a l c) (h2 : ct S a 0 = e) (h3 : kd Θ (ct S a 1) = 0) (h4 : c = 0 ∧ ct S a 1 = ev ω ∨ ow (ct S a 1) = a) : RV ω S Θ ow a (3, l, c, e) := sorry
theorem R2.lst (h : R2 ω S Θ) (hx : xo Θ a = (3, l, c, e)) : LstC ω S a l c ∧ ct S a 0 = e := sorry
theorem RV.bld (h : RV ω S Θ ow a (1, l, c, e)) : BldC ω S a l c e ∧ kd Θ (ct S a 0) = 0 ∧ ow (ct S a 0) = a := sorry
theorem RV.mkB (h : BldC ω S a l c e) (h3 : kd Θ (ct S a 0) = 0) (h4 : ow (ct S a 0) = a) : RV ω S Θ ow a (1, l, c, e) := sorry
theorem R2.bld (h : R2 ω S Θ) (hx : xo Θ a = (1, l, c, e)) : BldC ω S a l c e := sorry
theorem kd_up0 (hk : kd Θ a ≠ 0) (h : kd Θ b = 0) : kd (uq Θ a cl) b = 0 := sorry
/-- one object changes, with its inner cells -/
theorem R2w.upd (h : R2w ω S Θ ow) (w : bel S) (E : Ext S S') (ha : 0 < kd Θ a) (hf : ¬ fz Θ a) (b0 : Int) (hb0 : b0 = ev ω ∨ ow b0 = a) (hb1 : kd Θ b0 = 0) (K : Kp S S' (fun b => b = a ∨ b = b0))
    (hk : tk cl.1 = tk (kd Θ a)) (hk0 : 0 < cl.1) (hk2 : kd Θ a < 200 → cl.1 = kd Θ a) (hRV : RV ω S' (uq Θ a cl) (fun b => if b < nx S then ow b else a) a cl) : R2w ω S' (uq Θ a cl) (fun b => if b < nx S then ow b else a) := sorry
/-- a list changes -/
theorem R2.updL {c' : Int} (h : R2 ω S Θ) (w : bel S) (E : Ext S S') (hx : xo Θ a = (3, l, c, e)) (hf : ¬ fz Θ a) (K : Kp S S' (fun b => b = a ∨ b = ct S a 1)) (L : LstC ω S' a l' c') (hi : ct S' a 1 = ct S a 1 ∨ nx S ≤ ct S' a 1) : R2 ω S' (uq Θ a (3, l', c', ct S' a 0)) := sorry
/-- a builder changes -/
theorem R2.updB {c' e' : Int} (h : R2 ω S Θ) (w : bel S) (E : Ext S S') (hx : xo Θ a = (1, l, c, e)) (hf : ¬ fz Θ a) (K : BKp ω S S' a) (L : BldC ω S' a l' c' e') : R2 ω S' (uq Θ a (1, l', c', e')) := sorry
/-- an object that was not made yet is made; its inner cell is new, or the empty array -/
theorem R2.made {v : Int} (h : R2 ω S Θ) (w : bel S) (E : Ext S S') (hk : kd Θ a = 200 + t) (ht : 0 < t ∧ t < 100) (hc : cl.1 = t) (K : Kp S S' (fun b => b = a)) (hv : nx S ≤ v ∨ v = ev ω)
    (hRV : ∀ ow' : Int → Int, (nx S ≤ v → ow' v = a) → kd (uq Θ a cl) v = 0 → RV ω S' (uq Θ a cl) ow' a cl) : R2 ω S' (uq Θ a cl) := sorry
theorem nf_at : xo (nf Θ r cl n) r = cl := if_pos rfl
theorem nf_ne (h : b ≠ r) : xo (nf Θ r cl n) b = xo Θ b := if_neg h
/-- a new object that is frozen at once -/
theorem R2.newF (h : R2 ω S Θ) (w : bel S) (E : Ext S S') (hc : 0 < cl.1 ∧ cl.1 < 200) (K : Kp S S' (fun _ => False)) (hr : nx S ≤ r ∧ r < nx S') (ht : tg S' r = cl.1)
    (hRV : ∀ ow' : Int → Int, (∀ b, nx S ≤ b → ow' b = -2) → (∀ b, nx S ≤ b → b ≠ r → kd (nf Θ r cl (nx S')) b = 0) → fz (nf Θ r cl (nx S')) r → RV ω S' (nf Θ r cl (nx S')) ow' r cl) :
    R2 ω S' (nf Θ r cl (nx S')) ∧ Le Θ (nf Θ r cl (nx S')) ∧ Fx (nf Θ r cl (nx S')) r cl ∧ Sm no Θ (nf Θ r cl (nx S')) ∧ ∀ b, 0 < kd Θ b → fz (nf Θ r cl (nx S')) b → fz Θ b := sorry
/-- a new String -/
theorem R2.newS (h : R2 ω S Θ) (w : bel S) (w' : bel S') (k : StrN S S' r l) (hl : len l ≤ 15000000) : ∃ Θ', R2 ω S' Θ' ∧ Le Θ Θ' ∧ Str Θ' r l ∧ (Sm no Θ Θ' ∧ ∀ b, 0 < kd Θ b → fz Θ' b → fz Θ b) ∧ nt Θ ≤ r := sorry
end LIFT

/-! 52.w2d.lean.txt -/
/-! level 2: calls of the methods of the JDK and of rows that grow -/
set_option maxRecDepth 100000
def w2_J2_length (ω : AO) (d G : Nat) (l0 : Int) (Θ : Th) (Q : Int → Th → Prop) : Prop := Hid (∀ S, bel S → R2 ω S Θ → Ctr ω yJ2_length cJ2_length 1 (some .int) d G [(2, l0)] S (eI S (q2 ω Θ Q)))
def w2_J2_equals (ω : AO) (d G : Nat) (l0 l1 : Int) (Θ : Th) (Q : Int → Th → Prop) : Prop := Hid (∀ S, bel S → R2 ω S Θ → Ctr ω yJ2_equals cJ2_equals 3 (some .boolean) d G [(2, l0), (2, l1)] S (eZ S (q2 ω Θ Q)))
def w2_J2_charAt (ω : AO) (d G : Nat) (l0 l1 : Int) (Θ : Th) (Q : Int → Th → Prop) : Prop := Hid (∀ S, bel S → R2 ω S Θ → Ctr ω yJ2_charAt cJ2_charAt 2 (some .char) d G [(2, l0), (0, l1)] S (eC S (q2 ω Θ Q)))
def w2_J2_isEmpty (ω : AO) (d G : Nat) (l0 : Int) (Θ : Th) (Q : Int → Th → Prop) : Prop := Hid (∀ S, bel S → R2 ω S Θ → Ctr ω yJ2_isEmpty cJ2_isEmpty 1 (some .boolean) d G [(2, l0)] S (eZ S (q2 ω Θ Q)))
def w2_J2_substring_2 (ω : AO) (d G : Nat) (l0 l1 : Int) (Θ : Th) (Q : Int → Th → Prop) : Prop := Hid (∀ S, bel S → R2 ω S Θ → Ctr ω yJ2_substring_2 cJ2_substring_2 2 (some (.object "java/lang/String")) d G [(2, l0), (0, l1)] S (eA S (q2 ω Θ Q)))
def w2_J2_substring (ω : AO) (d G : Nat) (l0 l1 l2 : Int) (Θ : Th) (Q : Int → Th → Prop) : Prop := Hid (∀ S, bel S → R2 ω S Θ → Ctr ω yJ2_substring cJ2_substring 5 (some (.object "java/lang/String")) d G [(2, l0), (0, l1), (0, l2)] S (eA S (q2 ω Θ Q)))
def w2_J2_indexOf_3 (ω : AO) (d G : Nat) (l0 l1 : Int) (Θ : Th) (Q : Int → Th → Prop) : Prop := Hid (∀ S, bel S → R2 ω S Θ → Ctr ω yJ2_indexOf_3 cJ2_indexOf_3 2 (some .int) d G [(2, l0), (0, l1)] S (eI S (q2 ω Θ Q)))
def w2_J2_indexOf_2 (ω : AO) (d G : Nat) (l0 l1 l2 : Int) (Θ : Th) (Q : Int → Th → Prop) : Prop := Hid (∀ S, bel S → R2 ω S Θ → Ctr ω yJ2_indexOf_2 cJ2_indexOf_2 3 (some .int) d G [(2, l0), (0, l1), (0, l2)] S (eI S (q2 ω Θ Q)))
def w2_J2_indexOf (ω : AO) (d G : Nat) (l0 l1 : Int) (Θ : Th) (Q : Int → Th → Prop) : Prop := Hid (∀ S, bel S → R2 ω S Θ → Ctr ω yJ2_indexOf cJ2_indexOf 3 (some .int) d G [(2, l0), (2, l1)] S (eI S (q2 ω Θ Q)))
def w2_J2_lastIndexOf (ω : AO) (d G : Nat) (l0 l1 : Int) (Θ : Th) (Q : Int → Th → Prop) : Prop := Hid (∀ S, bel S → R2 ω S Θ → Ctr ω yJ2_lastIndexOf cJ2_lastIndexOf 2 (some .int) d G [(2, l0), (0, l1)] S (eI S (q2 ω Θ Q)))
def w2_J2_hashCode (ω : AO) (d G : Nat) (l0 : Int) (Θ : Th) (Q : Int → Th → Prop) : Prop := Hid (∀ S, bel S → R2 ω S Θ → Ctr ω yJ2_hashCode cJ2_hashCode 2 (some .int) d G [(2, l0)] S (eI S (q2 ω Θ Q)))
def w2_J2_startsWith_2 (ω : AO) (d G : Nat) (l0 l1 : Int) (Θ : Th) (Q : Int → Th → Prop) : Prop := Hid (∀ S, bel S → R2 ω S Θ → Ctr ω yJ2_startsWith_2 cJ2_startsWith_2 2 (some .boolean) d G [(2, l0), (2, l1)] S (eZ S (q2 ω Θ Q)))
def w2_J2_startsWith (ω : AO) (d G : Nat) (l0 l1 l2 : Int) (Θ : Th) (Q : Int → Th → Prop) : Prop := Hid (∀ S, bel S → R2 ω S Θ → Ctr ω yJ2_startsWith cJ2_startsWith 8 (some .boolean) d G [(2, l0), (2, l1), (0, l2)] S (eZ S (q2 ω Θ Q)))
def w2_J2_endsWith (ω : AO) (d G : Nat) (l0 l1 : Int) (Θ : Th) (Q : Int → Th → Prop) : Prop := Hid (∀ S, bel S → R2 ω S Θ → Ctr ω yJ2_endsWith cJ2_endsWith 2 (some .boolean) d G [(2, l0), (2, l1)] S (eZ S (q2 ω Θ Q)))
def w2_J1_init (ω : AO) (d G : Nat) (l0 : Int) (Θ : Th) (Q : Th → Prop) : Prop := Hid (∀ S, bel S → R2 ω S Θ → Ctr ω yJ1_init cJ1_init 1 none d G [(2, l0)] S (eU S (q2U ω Θ Q)))
def w2_J1_init_2 (ω : AO) (d G : Nat) (l0 l1 : Int) (Θ : Th) (Q : Th → Prop) : Prop := Hid (∀ S, bel S → R2 ω S Θ → Ctr ω yJ1_init_2 cJ1_init_2 2 none d G [(2, l0), (2, l1)] S (eU S (q2U ω Θ Q)))
def w2_J1_append (ω : AO) (d G : Nat) (l0 l1 : Int) (Θ : Th) (Q : Int → Th → Prop) : Prop := Hid (∀ S, bel S → R2 ω S Θ → Ctr ω yJ1_append cJ1_append 2 (some (.object "java/lang/StringBuilde\x72")) d G [(2, l0), (0, l1)] S (eA S (q2 ω Θ Q)))
def w2_J1_append_2 (ω : AO) (d G : Nat) (l0 l1 : Int) (Θ : Th) (Q : Int → Th → Prop) : Prop := Hid (∀ S, bel S → R2 ω S Θ → Ctr ω yJ1_append_2 cJ1_append_2 2 (some (.object "java/lang/StringBuilde\x72")) d G [(2, l0), (0, l1)] S (eA S (q2 ω Θ Q)))
def w2_J1_append_3 (ω : AO) (d G : Nat) (l0 l1 : Int) (Θ : Th) (Q : Int → Th → Prop) : Prop := Hid (∀ S, bel S → R2 ω S Θ → Ctr ω yJ1_append_3 cJ1_append_3 2 (some (.object "java/lang/StringBuilde\x72")) d G [(2, l0), (2, l1)] S (eA S (q2 ω Θ Q)))
def w2_J1_append_4 (ω : AO) (d G : Nat) (l0 l1 l2 l3 : Int) (Θ : Th) (Q : Int → Th → Prop) : Prop := Hid (∀ S, bel S → R2 ω S Θ → Ctr ω yJ1_append_4 cJ1_append_4 4 (some (.object "java/lang/StringBuilde\x72")) d G [(2, l0), (2, l1), (0, l2), (0, l3)] S (eA S (q2 ω Θ Q)))
def w2_J1_toString (ω : AO) (d G : Nat) (l0 : Int) (Θ : Th) (Q : Int → Th → Prop) : Prop := Hid (∀ S, bel S → R2 ω S Θ → Ctr ω yJ1_toString cJ1_toString 1 (some (.object "java/lang/String")) d G [(2, l0)] S (eA S (q2 ω Θ Q)))
def w2_J1_length (ω : AO) (d G : Nat) (l0 : Int) (Θ : Th) (Q : Int → Th → Prop) : Prop := Hid (∀ S, bel S → R2 ω S Θ → Ctr ω yJ1_length cJ1_length 1 (some .int) d G [(2, l0)] S (eI S (q2 ω Θ Q)))
def w2_J1_setLength (ω : AO) (d G : Nat) (l0 l1 : Int) (Θ : Th) (Q : Th → Prop) : Prop := Hid (∀ S, bel S → R2 ω S Θ → Ctr ω yJ1_setLength cJ1_setLength 2 none d G [(2, l0), (0, l1)] S (eU S (q2U ω Θ Q)))
def w2_J1_charAt (ω : AO) (d G : Nat) (l0 l1 : Int) (Θ : Th) (Q : Int → Th → Prop) : Prop := Hid (∀ S, bel S → R2 ω S Θ → Ctr ω yJ1_charAt cJ1_charAt 2 (some .char) d G [(2, l0), (0, l1)] S (eC S (q2 ω Θ Q)))
def w2_J7_init (ω : AO) (d G : Nat) (l0 : Int) (Θ : Th) (Q : Th → Prop) : Prop := Hid (∀ S, bel S → R2 ω S Θ → Ctr ω yJ7_init cJ7_init 1 none d G [(2, l0)] S (eU S (q2U ω Θ Q)))
def w2_J7_get (ω : AO) (d G : Nat) (l0 l1 : Int) (Θ : Th) (Q : Int → Th → Prop) : Prop := Hid (∀ S, bel S → R2 ω S Θ → Ctr ω yJ7_get cJ7_get 2 (some (.object "java/lang/Object")) d G [(2, l0), (0, l1)] S (eA S (q2 ω Θ Q)))
def w2_J7_size (ω : AO) (d G : Nat) (l0 : Int) (Θ : Th) (Q : Int → Th → Prop) : Prop := Hid (∀ S, bel S → R2 ω S Θ → Ctr ω yJ7_size cJ7_size 1 (some .int) d G [(2, l0)] S (eI S (q2 ω Θ Q)))
def w2_J7_add (ω : AO) (d G : Nat) (l0 l1 : Int) (Θ : Th) (Q : Int → Th → Prop) : Prop := Hid (∀ S, bel S → R2 ω S Θ → Ctr ω yJ7_add cJ7_add 2 (some .boolean) d G [(2, l0), (2, l1)] S (eZ S (q2 ω Θ Q)))
def w2_J7_add_3 (ω : AO) (d G : Nat) (l0 l1 l2 : Int) (Θ : Th) (Q : Th → Prop) : Prop := Hid (∀ S, bel S → R2 ω S Θ → Ctr ω yJ7_add_3 cJ7_add_3 5 none d G [(2, l0), (0, l1), (2, l2)] S (eU S (q2U ω Θ Q)))
def w2_J7_clear (ω : AO) (d G : Nat) (l0 : Int) (Θ : Th) (Q : Th → Prop) : Prop := Hid (∀ S, bel S → R2 ω S Θ → Ctr ω yJ7_clear cJ7_clear 4 none d G [(2, l0)] S (eU S (q2U ω Θ Q)))
def w2_J7_isEmpty (ω : AO) (d G : Nat) (l0 : Int) (Θ : Th) (Q : Int → Th → Prop) : Prop := Hid (∀ S, bel S → R2 ω S Θ → Ctr ω yJ7_isEmpty cJ7_isEmpty 1 (some .boolean) d G [(2, l0)] S (eZ S (q2 ω Θ Q)))
def w2_J7_remove_2 (ω : AO) (d G : Nat) (l0 l1 : Int) (Θ : Th) (Q : Int → Th → Prop) : Prop := Hid (∀ S, bel S → R2 ω S Θ → Ctr ω yJ7_remove_2 cJ7_remove_2 4 (some (.object "java/lang/Object")) d G [(2, l0), (0, l1)] S (eA S (q2 ω Θ Q)))
def w2_J7_remove (ω : AO) (d G : Nat) (l0 l1 : Int) (Θ : Th) (Q : Int → Th → Prop) : Prop := Hid (∀ S, bel S → R2 ω S Θ → Ctr ω yJ7_remove cJ7_remove 5 (some .boolean) d G [(2, l0), (2, l1)] S (eZ S (q2 ω Θ Q)))
def w2_J7_set (ω : AO) (d G : Nat) (l0 l1 l2 : Int) (Θ : Th) (Q : Int → Th → Prop) : Prop := Hid (∀ S, bel S → R2 ω S Θ → Ctr ω yJ7_set cJ7_set 4 (some (.object "java/lang/Object")) d G [(2, l0), (0, l1), (2, l2)] S (eA S (q2 ω Θ Q)))
def w2_J7_iterator (ω : AO) (d G : Nat) (l0 : Int) (Θ : Th) (Q : Int → Th → Prop) : Prop := Hid (∀ S, bel S → R2 ω S Θ → Ctr ω yJ7_iterator cJ7_iterator 1 (some (.object "java/util/Iterato\x72")) d G [(2, l0)] S (eA S (q2 ω Θ Q)))
def w2_J7_indexOf (ω : AO) (d G : Nat) (l0 l1 : Int) (Θ : Th) (Q : Int → Th → Prop) : Prop := Hid (∀ S, bel S → R2 ω S Θ → Ctr ω yJ7_indexOf cJ7_indexOf 2 (some .int) d G [(2, l0), (2, l1)] S (eI S (q2 ω Θ Q)))
def w2_J7_contains (ω : AO) (d G : Nat) (l0 l1 : Int) (Θ : Th) (Q : Int → Th → Prop) : Prop := Hid (∀ S, bel S → R2 ω S Θ → Ctr ω yJ7_contains cJ7_contains 2 (some .boolean) d G [(2, l0), (2, l1)] S (eZ S (q2 ω Θ Q)))
def w2_J7_addAll (ω : AO) (d G : Nat) (l0 l1 : Int) (Θ : Th) (Q : Int → Th → Prop) : Prop := Hid (∀ S, bel S → R2 ω S Θ → Ctr ω yJ7_addAll cJ7_addAll 6 (some .boolean) d G [(2, l0), (2, l1)] S (eZ S (q2 ω Θ Q)))
def w2_J31_hasNext (ω : AO) (d G : Nat) (l0 : Int) (Θ : Th) (Q : Int → Th → Prop) : Prop := Hid (∀ S, bel S → R2 ω S Θ → Ctr ω yJ31_hasNext cJ31_hasNext 1 (some .boolean) d G [(2, l0)] S (eZ S (q2 ω Θ Q)))
def w2_J31_next (ω : AO) (d G : Nat) (l0 : Int) (Θ : Th) (Q : Int → Th → Prop) : Prop := Hid (∀ S, bel S → R2 ω S Θ → Ctr ω yJ31_next cJ31_next 3 (some (.object "java/lang/Object")) d G [(2, l0)] S (eA S (q2 ω Θ Q)))
def w2_J19_valueOf (ω : AO) (d G : Nat) (l0 : Int) (Θ : Th) (Q : Int → Th → Prop) : Prop := Hid (∀ S, bel S → R2 ω S Θ → Ctr ω yJ19_valueOf cJ19_valueOf 1 (some (.object "java/lang/Intege\x72")) d G [(0, l0)] S (eA S (q2 ω Θ Q)))
def w2_J19_intValue (ω : AO) (d G : Nat) (l0 : Int) (Θ : Th) (Q : Int → Th → Prop) : Prop := Hid (∀ S, bel S → R2 ω S Θ → Ctr ω yJ19_intValue cJ19_intValue 1 (some .int) d G [(2, l0)] S (eI S (q2 ω Θ Q)))
def w2_J9_init (ω : AO) (d G : Nat) (l0 : Int) (Θ : Th) (Q : Th → Prop) : Prop := Hid (∀ S, bel S → R2 ω S Θ → Ctr ω yJ9_init cJ9_init 1 none d G [(2, l0)] S (eU S (q2U ω Θ Q)))
def w2_J9_get (ω : AO) (d G : Nat) (l0 l1 : Int) (Θ : Th) (Q : Int → Th → Prop) : Prop := Hid (∀ S, bel S → R2 ω S Θ → Ctr ω yJ9_get cJ9_get 3 (some (.object "java/lang/Object")) d G [(2, l0), (2, l1)] S (eA S (q2 ω Θ Q)))
def w2_J9_put (ω : AO) (d G : Nat) (l0 l1 l2 : Int) (Θ : Th) (Q : Int → Th → Prop) : Prop := Hid (∀ S, bel S → R2 ω S Θ → Ctr ω yJ9_put cJ9_put 3 (some (.object "java/lang/Object")) d G [(2, l0), (2, l1), (2, l2)] S (eA S (q2 ω Θ Q)))
def w2_J11_fill_2 (ω : AO) (d G : Nat) (l0 l1 : Int) (Θ : Th) (Q : Th → Prop) : Prop := Hid (∀ S, bel S → R2 ω S Θ → Ctr ω yJ11_fill_2 cJ11_fill_2 4 none d G [(2, l0), (0, l1)] S (eU S (q2U ω Θ Q)))
def w2_J11_copyOf_5 (ω : AO) (d G : Nat) (l0 l1 : Int) (Θ : Th) (Q : Int → Th → Prop) : Prop := Hid (∀ S, bel S → R2 ω S Θ → Ctr ω yJ11_copyOf_5 cJ11_copyOf_5 3 (some (.array Jvm.ClassFile.FieldType.int)) d G [(2, l0), (0, l1)] S (eA S (q2 ω Θ Q)))
def w2_J11_copyOf_4 (ω : AO) (d G : Nat) (l0 l1 : Int) (Θ : Th) (Q : Int → Th → Prop) : Prop := Hid (∀ S, bel S → R2 ω S Θ → Ctr ω yJ11_copyOf_4 cJ11_copyOf_4 3 (some (.array Jvm.ClassFile.FieldType.long)) d G [(2, l0), (0, l1)] S (eA S (q2 ω Θ Q)))
def w2_J4_min (ω : AO) (d G : Nat) (l0 l1 : Int) (Θ : Th) (Q : Int → Th → Prop) : Prop := Hid (∀ S, bel S → R2 ω S Θ → Ctr ω yJ4_min cJ4_min 2 (some .int) d G [(0, l0), (0, l1)] S (eI S (q2 ω Θ Q)))
def w2_J4_max (ω : AO) (d G : Nat) (l0 l1 : Int) (Θ : Th) (Q : Int → Th → Prop) : Prop := Hid (∀ S, bel S → R2 ω S Θ → Ctr ω yJ4_max cJ4_max 2 (some .int) d G [(0, l0), (0, l1)] S (eI S (q2 ω Θ Q)))
def w2_J4_min_2 (ω : AO) (d G : Nat) (l0 l2 : Int) (Θ : Th) (Q : Int → Th → Prop) : Prop := Hid (∀ S, bel S → R2 ω S Θ → Ctr ω yJ4_min_2 cJ4_min_2 4 (some .long) d G [(1, l0), (1, l2)] S (eL S (q2 ω Θ Q)))
def w2_J4_floorDiv (ω : AO) (d G : Nat) (l0 l2 : Int) (Θ : Th) (Q : Int → Th → Prop) : Prop := Hid (∀ S, bel S → R2 ω S Θ → Ctr ω yJ4_floorDiv cJ4_floorDiv 6 (some .long) d G [(1, l0), (1, l2)] S (eL S (q2 ω Θ Q)))
def w2_X50_init (ω : AO) (d G : Nat) (l0 : Int) (Θ : Th) (Q : Th → Prop) : Prop := Hid (∀ S, bel S → R2 ω S Θ → Ctr ω yX50_init cX50_init 1 none d G [(2, l0)] S (eU S (q2U ω Θ Q)))
def w2_X50_put (ω : AO) (d G : Nat) (l0 l1 : Int) (Θ : Th) (Q : Th → Prop) : Prop := Hid (∀ S, bel S → R2 ω S Θ → Ctr ω yX50_put cX50_put 5 none d G [(2, l0), (1, l1)] S (eU S (q2U ω Θ Q)))
def w2_X5_add (ω : AO) (d G : Nat) (l0 l1 : Int) (Θ : Th) (Q : Th → Prop) : Prop := Hid (∀ S, bel S → R2 ω S Θ → Ctr ω yX5_add cX5_add 2 none d G [(2, l0), (0, l1)] S (eU S (q2U ω Θ Q)))
def w2_X5_init (ω : AO) (d G : Nat) (l0 : Int) (Θ : Th) (Q : Th → Prop) : Prop := Hid (∀ S, bel S → R2 ω S Θ → Ctr ω yX5_init cX5_init 1 none d G [(2, l0)] S (eU S (q2U ω Θ Q)))
def w2_X6_add (ω : AO) (d G : Nat) (l0 l1 : Int) (Θ : Th) (Q : Th → Prop) : Prop := Hid (∀ S, bel S → R2 ω S Θ → Ctr ω yX6_add cX6_add 2 none d G [(2, l0), (0, l1)] S (eU S (q2U ω Θ Q)))
def w2_X6_init_2 (ω : AO) (d G : Nat) (l0 l1 : Int) (Θ : Th) (Q : Th → Prop) : Prop := Hid (∀ S, bel S → R2 ω S Θ → Ctr ω yX6_init_2 cX6_init_2 2 none d G [(2, l0), (0, l1)] S (eU S (q2U ω Θ Q)))
def w2_X9_add (ω : AO) (d G : Nat) (l0 l1 : Int) (Θ : Th) (Q : Th → Prop) : Prop := Hid (∀ S, bel S → R2 ω S Θ → Ctr ω yX9_add cX9_add 3 none d G [(2, l0), (1, l1)] S (eU S (q2U ω Θ Q)))
def w2_X9_init (ω : AO) (d G : Nat) (l0 : Int) (Θ : Th) (Q : Th → Prop) : Prop := Hid (∀ S, bel S → R2 ω S Θ → Ctr ω yX9_init cX9_init 1 none d G [(2, l0)] S (eU S (q2U ω Θ Q)))
def w2_X9_enter (ω : AO) (d G : Nat) (l0 l1 : Int) (Θ : Th) (Q : Th → Prop) : Prop := Hid (∀ S, bel S → R2 ω S Θ → Ctr ω yX9_enter cX9_enter 5 none d G [(2, l0), (1, l1)] S (eU S (q2U ω Θ Q)))
def w2_X9_has (ω : AO) (d G : Nat) (l0 l1 : Int) (Θ : Th) (Q : Int → Th → Prop) : Prop := Hid (∀ S, bel S → R2 ω S Θ → Ctr ω yX9_has cX9_has 3 (some .boolean) d G [(2, l0), (1, l1)] S (eZ S (q2 ω Θ Q)))

/-! 53.lj.lean.txt -/
/-! level 2: Strings, lists, builders, numbers -/
set_option maxRecDepth 100000
section LJ
variable {ω : AO} {d G : Nat} {Θ : Th} {a b i n r s x y q u : Int} {c c2 e e2 : Int} {l m : List Int} {Q : Int → Th → Prop} {QV : Th → Prop}
-- Strings
theorem u_J2_length (hd : 1 ≤ d) (h : Str Θ a l) (hQ : Q (len l) Θ) : w2_J2_length ω d G a Θ Q := sorry
theorem u_J2_charAt (hd : 4 ≤ d) (h : Str Θ a l) (hi : 0 ≤ i ∧ i < len l) (hQ : Q (gt l i) Θ) : w2_J2_charAt ω d G a i Θ Q := sorry
theorem u_J2_equals (hd : 1 ≤ d) (h : Str Θ a l) (h' : Str Θ b m) (hQ : ∀ x, x = (if l = m then 1 else 0) → Q x Θ) : w2_J2_equals ω d G a b Θ Q := sorry
theorem u_J2_isEmpty (h : Str Θ a l) (hQ : ∀ x, x = (if l = [] then 1 else 0) → Q x Θ) : w2_J2_isEmpty ω d G a Θ Q := sorry
theorem u_J2_indexOf_2 (hd : 5 ≤ d) (h : Str Θ a l) (hx : 0 ≤ x ∧ x < 65536) (hi : inI i) (hQ : Q (idx l x i) Θ) : w2_J2_indexOf_2 ω d G a x i Θ Q := sorry
theorem u_J2_indexOf_3 (hd : 6 ≤ d) (h : Str Θ a l) (hx : 0 ≤ x ∧ x < 65536) (hQ : Q (idx l x 0) Θ) : w2_J2_indexOf_3 ω d G a x Θ Q := sorry
theorem u_J2_lastIndexOf (hd : 4 ≤ d) (h : Str Θ a l) (hw : wide l = 0) (hx : 0 ≤ x ∧ x < 256) (hQ : ∀ r, IsLast l x r → Q r Θ) : w2_J2_lastIndexOf ω d G a x Θ Q := sorry
theorem u_J2_startsWith (hd : 3 ≤ d) (h : Str Θ a l) (hs : Str Θ s m) (hw : wide m = 0) (hm : len m ≤ 7) (hi : inI i) (hQ1 : pAt l m i → Q 1 Θ) (hQ0 : ¬ pAt l m i → Q 0 Θ) : w2_J2_startsWith ω d G a s i Θ Q := sorry
theorem u_J2_startsWith_2 (hd : 4 ≤ d) (h : Str Θ a l) (hs : Str Θ s m) (hw : wide m = 0) (hm : len m ≤ 7) (hQ1 : pAt l m 0 → Q 1 Θ) (hQ0 : ¬ pAt l m 0 → Q 0 Θ) : w2_J2_startsWith_2 ω d G a s Θ Q := sorry
theorem u_J2_endsWith (hd : 4 ≤ d) (h : Str Θ a l) (hs : Str Θ s m) (hw : wide m = 0) (hm : len m ≤ 7) (hQ1 : pAt l m (len l - len m) → Q 1 Θ) (hQ0 : ¬ pAt l m (len l - len m) → Q 0 Θ) : w2_J2_endsWith ω d G a s Θ Q := sorry
theorem sub_nil {l : List Int} {i : Int} : sub l i i = [] := sorry
/-- the empty String of StringLatin1 -/
theorem R2.empty {S : AS} (R : R2 ω S Θ) : Str Θ (ω.2.2.1 RJ12 151 : Int) [] := sorry
/-- a String that a method made, or had -/
def NewS (Θ Θ' : Th) (r : Int) (l : List Int) : Prop := Str Θ' r l ∧ Gr Θ Θ'
theorem u_J2_substring (hd : 6 ≤ d) (h : Str Θ a l) (hi : 0 ≤ i ∧ i ≤ n ∧ n ≤ len l) (hG : n - i + 5 ≤ (G : Int)) (he : i < n ∨ wide l = 0 ∨ l = []) (hQ : ∀ r Θ', NewS Θ Θ' r (sub l i n) → Q r Θ') : w2_J2_substring ω d G a i n Θ Q := sorry
theorem u_J2_substring_2 (hd : 7 ≤ d) (h : Str Θ a l) (hi : 0 ≤ i ∧ i ≤ len l) (hG : len l - i + 5 ≤ (G : Int)) (he : i < len l ∨ wide l = 0 ∨ l = []) (hQ : ∀ r Θ', NewS Θ Θ' r (sub l i (len l)) → Q r Θ') : w2_J2_substring_2 ω d G a i Θ Q := sorry
-- lists
theorem u_J7_size (h : xo Θ a = (3, l, c, e)) (hQ : Q (len l) Θ) : w2_J7_size ω d G a Θ Q := sorry
theorem u_J7_isEmpty (h : xo Θ a = (3, l, c, e)) (hQ : ∀ x, x = (if l = [] then 1 else 0) → Q x Θ) : w2_J7_isEmpty ω d G a Θ Q := sorry
theorem u_J7_get (hd : 2 ≤ d) (h : xo Θ a = (3, l, c, e)) (hi : 0 ≤ i ∧ i < len l) (hQ : Q (gt l i) Θ) : w2_J7_get ω d G a i Θ Q := sorry
theorem u_J7_add (hd : 6 ≤ d) (h : xo Θ a = (3, l, c, e)) (hf : ¬ fz Θ a) (hx : rf Θ x) (hc : adC c (len l) ≤ 60000000) (hG : adC c (len l) - c ≤ (G : Int))
    (hQ : ∀ e' Θ', Θ' = uq Θ a (3, l ++ [x], adC c (len l), e') → Q 1 Θ') : w2_J7_add ω d G a x Θ Q := sorry
theorem u_J7_add_3 (hd : 6 ≤ d) (h : xo Θ a = (3, l, c, e)) (hf : ¬ fz Θ a) (hi : 0 ≤ i ∧ i ≤ len l) (hx : rf Θ x) (hc : adC c (len l) ≤ 60000000) (hG : adC c (len l) - c ≤ (G : Int))
    (hQ : ∀ e' Θ', Θ' = uq Θ a (3, ins l i x, adC c (len l), e') → QV Θ') : w2_J7_add_3 ω d G a i x Θ QV := sorry
theorem u_J7_addAll (hd : 4 ≤ d) (h : xo Θ a = (3, l, c, e)) (h2 : xo Θ b = (3, m, c2, e2)) (hf : ¬ fz Θ a) (hlm : len m ≤ 20000000) (hc : alC c (len l) (len m) ≤ 60000000) (hG : (len m).toNat / 5 + 2 + (alC c (len l) (len m) - c) ≤ (G : Int))
    (hQ : ∀ e' Θ', Θ' = uq Θ a (3, l ++ m, alC c (len l) (len m), e') → Q (if len m = 0 then 0 else 1) Θ') : w2_J7_addAll ω d G a b Θ Q := sorry
theorem u_J7_set (hd : 2 ≤ d) (h : xo Θ a = (3, l, c, e)) (hf : ¬ fz Θ a) (hi : 0 ≤ i ∧ i < len l) (hx : rf Θ x) (hQ : ∀ Θ', Θ' = uq Θ a (3, l.set i.toNat x, c, e) → Q (gt l i) Θ') : w2_J7_set ω d G a i x Θ Q := sorry
theorem u_J7_clear (h : xo Θ a = (3, l, c, e)) (hf : ¬ fz Θ a) (hQ : ∀ e' Θ', Θ' = uq Θ a (3, [], c, e') → QV Θ') : w2_J7_clear ω d G a Θ QV := sorry
theorem u_J7_remove_2 (hd : 2 ≤ d) (h : xo Θ a = (3, l, c, e)) (hf : ¬ fz Θ a) (hi : 0 ≤ i ∧ i < len l) (hQ : ∀ e' Θ', Θ' = uq Θ a (3, del l i, c, e') → Q (gt l i) Θ') : w2_J7_remove_2 ω d G a i Θ Q := sorry
/-- objects that are compared by their addresses -/
def idK (Θ : Th) (x : Int) : Prop := kd Θ x = 26 ∨ kd Θ x = 35 ∨ kd Θ x = 65
theorem R2.idS {S : AS} (R : R2 ω S Θ) (h : idK Θ x) : 0 ≤ x ∧ (tg S x = 26 ∨ tg S x = 35 ∨ tg S x = 65) := sorry
theorem u_J7_indexOf (hd : 2 ≤ d) (h : xo Θ a = (3, l, c, e)) (hx : idK Θ x) (hQ : Q (idx l x 0) Θ) : w2_J7_indexOf ω d G a x Θ Q := sorry
theorem u_J7_contains (hd : 3 ≤ d) (h : xo Θ a = (3, l, c, e)) (hx : idK Θ x) (hQ : ∀ z, z = (if 0 ≤ idx l x 0 then 1 else 0) → Q z Θ) : w2_J7_contains ω d G a x Θ Q := sorry
theorem u_J7_remove (hd : 2 ≤ d) (h : xo Θ a = (3, l, c, e)) (hf : ¬ fz Θ a) (hx : idK Θ x) (hQ0 : idx l x 0 = -1 → Q 0 Θ) (hQ1 : ∀ e' Θ', 0 ≤ idx l x 0 → idx l x 0 < len l → Θ' = uq Θ a (3, del l (idx l x 0), c, e') → Q 1 Θ') : w2_J7_remove ω d G a x Θ Q := sorry
theorem R2.evv {S : AS} (R : R2 ω S Θ) : tg S (ev ω) = 106 ∧ ln S (ev ω) = 0 := sorry
theorem R2.rawC {S : AS} {t : Nat} {k : Int} (R : R2 ω S Θ) (hk : kd Θ a = 200 + t) (ht : 0 < t ∧ t < 100) : tg S a = t ∧ 0 ≤ a ∧ bo ω ≤ a ∧ ct S a k = ini t k := sorry
theorem Le.raw {cl : Cl} {t : Nat} (R : Bl Θ) (hk : kd Θ a = 200 + t) : Le Θ (uq Θ a cl) := sorry
theorem u_J7_init (hd : 3 ≤ d) (hk : kd Θ a = 203) (hQ : ∀ e' Θ', Θ' = uq Θ a (3, [], 0, e') → QV Θ') : w2_J7_init ω d G a Θ QV := sorry
-- builders
theorem u_J1_init (hd : 2 ≤ d) (hk : kd Θ a = 201) (hG : 5 ≤ G) (hQ : ∀ Θ', Θ' = uq Θ a (1, [], 16, 0) → QV Θ') : w2_J1_init ω d G a Θ QV := sorry
theorem u_J1_append (hd : 8 ≤ d) (h : xo Θ a = (1, l, c, e)) (hf : ¬ fz Θ a) (hx : 0 ≤ x ∧ x < 65536) (hc : bC c (len l + 1) ≤ 20000000) (hG : bK (bC c (len l + 1)) (if x ≤ 255 then e else 1) - bK c e ≤ (G : Int))
    (hQ : ∀ Θ', Θ' = uq Θ a (1, l ++ [x], bC c (len l + 1), if x ≤ 255 then e else 1) → Q a Θ') : w2_J1_append ω d G a x Θ Q := sorry
theorem u_J1_append_3 (hd : 10 ≤ d) (h : xo Θ a = (1, l, c, e)) (hf : ¬ fz Θ a) (hs : Str Θ s m) (hc : bC c (len l + len m) ≤ 20000000) (hG : bK (bC c (len l + len m)) (max e (wide m)) - bK c e ≤ (G : Int))
    (hQ : ∀ Θ', Θ' = uq Θ a (1, l ++ m, bC c (len l + len m), max e (wide m)) → Q a Θ') : w2_J1_append_3 ω d G a s Θ Q := sorry
theorem u_J1_length (hd : 1 ≤ d) (h : xo Θ a = (1, l, c, e)) (hQ : Q (len l) Θ) : w2_J1_length ω d G a Θ Q := sorry
theorem u_J1_charAt (hd : 3 ≤ d) (h : xo Θ a = (1, l, c, e)) (hi : 0 ≤ i ∧ i < len l) (hQ : Q (gt l i) Θ) : w2_J1_charAt ω d G a i Θ Q := sorry
theorem u_J1_setLength (hd : 5 ≤ d) (h : xo Θ a = (1, l, c, e)) (hf : ¬ fz Θ a) (hn : 0 ≤ n ∧ n ≤ len l) (hQ : ∀ Θ', Θ' = uq Θ a (1, l.take n.toNat, c, e) → QV Θ') : w2_J1_setLength ω d G a n Θ QV := sorry
theorem u_J1_toString (hd : 7 ≤ d) (h : xo Θ a = (1, l, c, e)) (hl : len l ≤ 15000000) (hG : len l + 5 ≤ (G : Int)) (hQ : ∀ r Θ', NewS Θ Θ' r l → nt Θ ≤ r → Q r Θ') : w2_J1_toString ω d G a Θ Q := sorry
-- numbers
theorem u_J19_intValue (h : xo Θ a = (7, [n], c, e)) (hQ : Q n Θ) : w2_J19_intValue ω d G a Θ Q := sorry
theorem u_J19_valueOf (hd : 4 ≤ d) (hn : inI n) (hG : 1 ≤ G) (hQ : ∀ r Θ', Fx Θ' r (7, [n], 0, 0) → Gr Θ Θ' → Q r Θ') : w2_J19_valueOf ω d G n Θ Q := sorry
theorem u_J4_min (hx : inI x) (hy : inI y) (hQ : Q (min x y) Θ) : w2_J4_min ω d G x y Θ Q := sorry
theorem u_J4_max (hx : inI x) (hy : inI y) (hQ : Q (max x y) Θ) : w2_J4_max ω d G x y Θ Q := sorry
-- iterators
theorem u_J7_iterator (hd : 2 ≤ d) (h : xo Θ a = (3, l, c, e)) (hG : 1 ≤ G) (hQ : ∀ r u Θ', Θ' = nu Θ r (14, [0, u, e, a], 0, 0) → nt Θ ≤ r → Bl Θ → Q r Θ') : w2_J7_iterator ω d G a Θ Q := sorry
theorem R2.itC {S : AS} (R : R2 ω S Θ) (h : xo Θ a = (3, l, c, e)) (hq : xo Θ q = (14, [x, u, e, a], 0, 0)) (hf : ¬ fz Θ q) : ItC ω S q a x := sorry
theorem u_J31_hasNext (h : xo Θ a = (3, l, c, e)) (hq : xo Θ q = (14, [x, u, e, a], 0, 0)) (hf : ¬ fz Θ q) (hQ : ∀ z, z = (if x = len l then 0 else 1) → Q z Θ) : w2_J31_hasNext ω d G q Θ Q := sorry
theorem u_J31_next (hd : 1 ≤ d) (h : xo Θ a = (3, l, c, e)) (hq : xo Θ q = (14, [x, u, e, a], 0, 0)) (hf : ¬ fz Θ q) (hx : 0 ≤ x ∧ x < len l) (hQ : ∀ u' Θ', Θ' = uq Θ q (14, [x + 1, u', e, a], 0, 0) → Q (gt l x) Θ') : w2_J31_next ω d G q Θ Q := sorry
end LJ
theorem u_J19_intV {ω : AO} {d G : Nat} {Θ : Th} {a : Int} {Q : Int → Th → Prop} (h : kd Θ a = 7) (hQ : Q (gt (vv Θ a) 0) Θ) : w2_J19_intValue ω d G a Θ Q := sorry
/-! 54.s5.lean.txt -/
set_option maxRecDepth 100000
theorem lf_X50_7_55 : FLk RX50 7 55 0 (.array .byte) false := sorry
theorem lr_X50_13_55 : FLkR RX50 13 55 1 .int := sorry
theorem lr_X50_7_55 : FLkR RX50 7 55 0 (.array .byte) := sorry
theorem lm_X50_17 : SLk RX50 17 yJ11_copyOf cJ11_copyOf 3 (some (.array Jvm.ClassFile.FieldType.byte)) 2 := sorry
theorem lf_X50_13_55 : FLk RX50 13 55 1 .int false := sorry
theorem lr_X5_15_19 : FLkR RX5 15 19 1 .int := sorry
theorem lr_X5_9_19 : FLkR RX5 9 19 0 (.array .int) := sorry
theorem lm_X5_19 : SLk RX5 19 yJ11_copyOf_5 cJ11_copyOf_5 3 (some (.array Jvm.ClassFile.FieldType.int)) 2 := sorry
theorem lf_X5_9_19 : FLk RX5 9 19 0 (.array .int) false := sorry
theorem lf_X5_15_19 : FLk RX5 15 19 1 .int false := sorry
theorem lr_X6_27_20 : FLkR RX6 27 20 1 .int := sorry
theorem lr_X6_23_20 : FLkR RX6 23 20 0 (.array .char) := sorry
theorem lm_X6_31 : SLk RX6 31 yJ11_copyOf_6 cJ11_copyOf_6 3 (some (.array Jvm.ClassFile.FieldType.char)) 2 := sorry
theorem lf_X6_23_20 : FLk RX6 23 20 0 (.array .char) false := sorry
theorem lf_X6_27_20 : FLk RX6 27 20 1 .int false := sorry
theorem lm_X6_14 : SLk RX6 14 yJ4_min cJ4_min 2 (some .int) 2 := sorry
theorem lm_X6_20 : SLk RX6 20 yJ4_max cJ4_max 2 (some .int) 2 := sorry
theorem lr_X9_13_23 : FLkR RX9 13 23 1 .int := sorry
theorem lr_X9_7_23 : FLkR RX9 7 23 0 (.array .long) := sorry
theorem lm_X9_17 : SLk RX9 17 yJ11_copyOf_4 cJ11_copyOf_4 3 (some (.array Jvm.ClassFile.FieldType.long)) 2 := sorry
theorem lf_X9_7_23 : FLk RX9 7 23 0 (.array .long) false := sorry
theorem lf_X9_13_23 : FLk RX9 13 23 1 .int false := sorry
theorem lm_X9_23 : VLk RX9 23 23 yX9_add cX9_add 3 none 1 := sorry
theorem lm_X9_27 : SLk RX9 27 yJ11_binarySearch cJ11_binarySearch 5 (some .int) 4 := sorry
def w_X50_init (ω : AO) (d G : Nat) (l0 : Int) (S : AS) (Q : AS → Prop) : Prop := Hid (Ctr ω yX50_init cX50_init 1 none d G [(2, l0)] S (eU S Q))
set_option maxHeartbeats 2000000 in
theorem s_X50_init {ω : AO} {d G : Nat} {l0 : Int} {S : AS} {Q : AS → Prop} (hB : (1 ≤ d) ∧ (0 ≤ l0) ∧ (0 + 14 ≤ G) ∧ ∀ (w7 : ∀ a, 0 < tg S a → 0 ≤ a ∧ a < nx S) (S7 : AS) (e7 : S7 = nw S 101 64) (v7 : Int) (u7 : v7 = nx S), (tg S7 l0 = 55) ∧ (bo ω ≤ l0) ∧ (-1 ≤ v7) ∧ ∀ (S9 : AS) (e9 : S9 = wr S7 l0 0 v7), Q S9) : w_X50_init ω d G l0 S Q := sorry
def w_X50_put (ω : AO) (d G : Nat) (l0 l1 : Int) (S : AS) (Q : AS → Prop) : Prop := Hid (Ctr ω yX50_put cX50_put 5 none d G [(2, l0), (1, l1)] S (eU S Q))
def W_X50_put_2 (ω : AO) (d G : Nat) (l0 l3 : Int) (g : Nat) (S : AS) (Q : AS → Prop) : Prop := Hid (SJ ω yX50_put cX50_put 5 none d G (fun S0 => eU S0 Q) 2 [(2, l0), vN, vN, (1, l3), vN] [] g S)
def W_X50_put_31 (ω : AO) (d G : Nat) (l0 l3 : Int) (g : Nat) (S : AS) (Q : AS → Prop) : Prop := Hid (SJ ω yX50_put cX50_put 5 none d G (fun S0 => eU S0 Q) 31 [(2, l0), vN, vN, (1, l3), vN] [] g S)
def W_X50_put_59 (ω : AO) (d G : Nat) (l0 l3 s0 s1 s2 s3 : Int) (g : Nat) (S : AS) (Q : AS → Prop) : Prop := Hid (SJ ω yX50_put cX50_put 5 none d G (fun S0 => eU S0 Q) 59 [(2, l0), vN, vN, (1, l3), vN] [(0, s0), (1, s1), (0, s2), (2, s3)] g S)
set_option maxHeartbeats 2000000 in
theorem s_X50_put {ω : AO} {d G : Nat} {l0 l1 : Int} {S : AS} {Q : AS → Prop} (hB : W_X50_put_2 ω d G l0 l1 (0) S Q) : w_X50_put ω d G l0 l1 S Q := sorry
set_option maxHeartbeats 2000000 in
theorem s_X50_put_2 {ω : AO} {d G : Nat} {l0 l3 : Int} {g : Nat} {S : AS} {Q : AS → Prop} (hB : (tg S l0 = 55) ∧ ∀ (v3 : Int) (e3 : v3 = ct S l0 1) (r3 : -2147483648 ≤ v3 ∧ v3 < 2147483648), ∀ (v7 : Int) (e7 : v7 = ct S l0 0) (r7 : -1 ≤ v7), (tg S v7 = 101) ∧ ∀ (v10 : Int) (e10 : v10 = ln S v7) (r10 : 0 ≤ v10 ∧ v10 < 2147483648), (∀ (c11 : ¬ v3 = v10), W_X50_put_31 ω d G l0 l3 (g) S Q) ∧ (∀ (c11 : v3 = v10), ∀ (v16 : Int) (e16 : v16 = ct S l0 0) (r16 : -1 ≤ v16), ∀ (v21 : Int) (e21 : v21 = ct S l0 1) (r21 : -2147483648 ≤ v21 ∧ v21 < 2147483648), (1 ≤ d) ∧ ∃ G25 : Nat, (g + G25 ≤ G) ∧ w_J11_copyOf ω (d - 1) G25 v16 (2 * v21) S (fun x25 S25 => ∀ (E25 : Ext S S25) (r25 : -1 ≤ x25), (bo ω ≤ l0) ∧ (-1 ≤ x25) ∧ ∀ (S28 : AS) (e28 : S28 = wr S25 l0 0 x25), W_X50_put_31 ω d G l0 l3 (g + G25) S28 Q))) : W_X50_put_2 ω d G l0 l3 g S Q := sorry
set_option maxHeartbeats 2000000 in
theorem s_X50_put_31 {ω : AO} {d G : Nat} {l0 l3 : Int} {g : Nat} {S : AS} {Q : AS → Prop} (hB : (tg S l0 = 55) ∧ ∀ (v32 : Int) (e32 : v32 = ct S l0 0) (r32 : -1 ≤ v32), ∀ (v36 : Int) (e36 : v36 = ct S l0 1) (r36 : -2147483648 ≤ v36 ∧ v36 < 2147483648), (-9223372036854775808 ≤ l3 ∧ l3 < 9223372036854775808) ∧ (∀ (c49 : l3 ≤ 127), W_X50_put_59 ω d G l0 l3 0 ((andL l3 127)) v36 v32 (g) S Q) ∧ (∀ (c49 : 127 < l3), W_X50_put_59 ω d G l0 l3 128 ((andL l3 127)) v36 v32 (g) S Q)) : W_X50_put_31 ω d G l0 l3 g S Q := sorry
set_option maxHeartbeats 2000000 in
theorem s_X50_put_59 {ω : AO} {d G : Nat} {l0 l3 s0 s1 s2 s3 : Int} {g : Nat} {S : AS} {Q : AS → Prop} (hB : (-2147483648 ≤ s0 ∧ s0 < 2147483648) ∧ (tg S s3 = 101) ∧ (bo ω ≤ s3) ∧ (0 ≤ s2 ∧ s2 < ln S s3) ∧ ∀ (S63 : AS) (e63 : S63 = wr S s3 s2 (((orL s1 s0) + 128) % 256 - 128)), (tg S63 l0 = 55) ∧ ∀ (v66 : Int) (e66 : v66 = ct S63 l0 1) (r66 : -2147483648 ≤ v66 ∧ v66 < 2147483648), (bo ω ≤ l0) ∧ (-2147483648 ≤ (v66 + 1) ∧ (v66 + 1) < 2147483648) ∧ ∀ (S71 : AS) (e71 : S71 = wr S63 l0 1 (v66 + 1)), (∀ (c82 : 0 < (ushrL l3 7)), W_X50_put_2 ω d G l0 ((ushrL l3 7)) (g) S71 Q) ∧ (∀ (c82 : (ushrL l3 7) ≤ 0), (g ≤ G) ∧ Q S71)) : W_X50_put_59 ω d G l0 l3 s0 s1 s2 s3 g S Q := sorry
def w_X5_add (ω : AO) (d G : Nat) (l0 l1 : Int) (S : AS) (Q : AS → Prop) : Prop := Hid (Ctr ω yX5_add cX5_add 2 none d G [(2, l0), (0, l1)] S (eU S Q))
def W_X5_add_29 (ω : AO) (d G : Nat) (l0 l1 : Int) (g : Nat) (S : AS) (Q : AS → Prop) : Prop := Hid (SJ ω yX5_add cX5_add 2 none d G (fun S0 => eU S0 Q) 29 [(2, l0), (0, l1)] [] g S)
set_option maxHeartbeats 2000000 in
theorem s_X5_add {ω : AO} {d G : Nat} {l0 l1 : Int} {S : AS} {Q : AS → Prop} (hB : (tg S l0 = 19) ∧ ∀ (v1 : Int) (e1 : v1 = ct S l0 1) (r1 : -2147483648 ≤ v1 ∧ v1 < 2147483648), ∀ (v5 : Int) (e5 : v5 = ct S l0 0) (r5 : -1 ≤ v5), (tg S v5 = 104) ∧ ∀ (v8 : Int) (e8 : v8 = ln S v5) (r8 : 0 ≤ v8 ∧ v8 < 2147483648), (∀ (c9 : ¬ v1 = v8), W_X5_add_29 ω d G l0 l1 (0) S Q) ∧ (∀ (c9 : v1 = v8), ∀ (v14 : Int) (e14 : v14 = ct S l0 0) (r14 : -1 ≤ v14), ∀ (v19 : Int) (e19 : v19 = ct S l0 1) (r19 : -2147483648 ≤ v19 ∧ v19 < 2147483648), (1 ≤ d) ∧ ∃ G23 : Nat, (0 + G23 ≤ G) ∧ w_J11_copyOf_5 ω (d - 1) G23 v14 (2 * v19) S (fun x23 S23 => ∀ (E23 : Ext S S23) (r23 : -1 ≤ x23), (bo ω ≤ l0) ∧ (-1 ≤ x23) ∧ ∀ (S26 : AS) (e26 : S26 = wr S23 l0 0 x23), W_X5_add_29 ω d G l0 l1 (0 + G23) S26 Q))) : w_X5_add ω d G l0 l1 S Q := sorry
set_option maxHeartbeats 2000000 in
theorem s_X5_add_29 {ω : AO} {d G : Nat} {l0 l1 : Int} {g : Nat} {S : AS} {Q : AS → Prop} (hB : (tg S l0 = 19) ∧ ∀ (v30 : Int) (e30 : v30 = ct S l0 0) (r30 : -1 ≤ v30), ∀ (v34 : Int) (e34 : v34 = ct S l0 1) (r34 : -2147483648 ≤ v34 ∧ v34 < 2147483648), (tg S v30 = 104) ∧ (bo ω ≤ v30) ∧ (0 ≤ v34 ∧ v34 < ln S v30) ∧ (-2147483648 ≤ l1 ∧ l1 < 2147483648) ∧ ∀ (S38 : AS) (e38 : S38 = wr S v30 v34 l1), ∀ (v41 : Int) (e41 : v41 = ct S38 l0 1) (r41 : -2147483648 ≤ v41 ∧ v41 < 2147483648), (bo ω ≤ l0) ∧ (-2147483648 ≤ (v41 + 1) ∧ (v41 + 1) < 2147483648) ∧ ∀ (S46 : AS) (e46 : S46 = wr S38 l0 1 (v41 + 1)), (g ≤ G) ∧ Q S46) : W_X5_add_29 ω d G l0 l1 g S Q := sorry
def w_X5_init (ω : AO) (d G : Nat) (l0 : Int) (S : AS) (Q : AS → Prop) : Prop := Hid (Ctr ω yX5_init cX5_init 1 none d G [(2, l0)] S (eU S Q))
set_option maxHeartbeats 2000000 in
theorem s_X5_init {ω : AO} {d G : Nat} {l0 : Int} {S : AS} {Q : AS → Prop} (hB : (1 ≤ d) ∧ (0 ≤ l0) ∧ (0 + 3 ≤ G) ∧ ∀ (w7 : ∀ a, 0 < tg S a → 0 ≤ a ∧ a < nx S) (S7 : AS) (e7 : S7 = nw S 104 8) (v7 : Int) (u7 : v7 = nx S), (tg S7 l0 = 19) ∧ (bo ω ≤ l0) ∧ (-1 ≤ v7) ∧ ∀ (S9 : AS) (e9 : S9 = wr S7 l0 0 v7), Q S9) : w_X5_init ω d G l0 S Q := sorry
def w_X6_add (ω : AO) (d G : Nat) (l0 l1 : Int) (S : AS) (Q : AS → Prop) : Prop := Hid (Ctr ω yX6_add cX6_add 2 none d G [(2, l0), (0, l1)] S (eU S Q))
def W_X6_add_40 (ω : AO) (d G : Nat) (l0 l1 : Int) (g : Nat) (S : AS) (Q : AS → Prop) : Prop := Hid (SJ ω yX6_add cX6_add 2 none d G (fun S0 => eU S0 Q) 40 [(2, l0), (0, l1)] [] g S)
set_option maxHeartbeats 2000000 in
theorem s_X6_add {ω : AO} {d G : Nat} {l0 l1 : Int} {S : AS} {Q : AS → Prop} (hB : (tg S l0 = 20) ∧ ∀ (v1 : Int) (e1 : v1 = ct S l0 1) (r1 : -2147483648 ≤ v1 ∧ v1 < 2147483648), (∀ (c7 : ¬ v1 = 2000), ∀ (v12 : Int) (e12 : v12 = ct S l0 1) (r12 : -2147483648 ≤ v12 ∧ v12 < 2147483648), ∀ (v16 : Int) (e16 : v16 = ct S l0 0) (r16 : -1 ≤ v16), (tg S v16 = 103) ∧ ∀ (v19 : Int) (e19 : v19 = ln S v16) (r19 : 0 ≤ v19 ∧ v19 < 2147483648), (∀ (c20 : ¬ v12 = v19), W_X6_add_40 ω d G l0 l1 (0) S Q) ∧ (∀ (c20 : v12 = v19), ∀ (v25 : Int) (e25 : v25 = ct S l0 0) (r25 : -1 ≤ v25), ∀ (v30 : Int) (e30 : v30 = ct S l0 1) (r30 : -2147483648 ≤ v30 ∧ v30 < 2147483648), (1 ≤ d) ∧ ∃ G34 : Nat, (0 + G34 ≤ G) ∧ w_J11_copyOf_6 ω (d - 1) G34 v25 (2 * v30) S (fun x34 S34 => ∀ (E34 : Ext S S34) (r34 : -1 ≤ x34), (bo ω ≤ l0) ∧ (-1 ≤ x34) ∧ ∀ (S37 : AS) (e37 : S37 = wr S34 l0 0 x34), W_X6_add_40 ω d G l0 l1 (0 + G34) S37 Q))) ∧ (∀ (c7 : v1 = 2000), Q S)) : w_X6_add ω d G l0 l1 S Q := sorry
set_option maxHeartbeats 2000000 in
theorem s_X6_add_40 {ω : AO} {d G : Nat} {l0 l1 : Int} {g : Nat} {S : AS} {Q : AS → Prop} (hB : (tg S l0 = 20) ∧ ∀ (v41 : Int) (e41 : v41 = ct S l0 0) (r41 : -1 ≤ v41), ∀ (v45 : Int) (e45 : v45 = ct S l0 1) (r45 : -2147483648 ≤ v45 ∧ v45 < 2147483648), (tg S v41 = 103) ∧ (bo ω ≤ v41) ∧ (0 ≤ v45 ∧ v45 < ln S v41) ∧ ∀ (S50 : AS) (e50 : S50 = wr S v41 v45 (l1 % 65536)), ∀ (v53 : Int) (e53 : v53 = ct S50 l0 1) (r53 : -2147483648 ≤ v53 ∧ v53 < 2147483648), (bo ω ≤ l0) ∧ (-2147483648 ≤ (v53 + 1) ∧ (v53 + 1) < 2147483648) ∧ ∀ (S58 : AS) (e58 : S58 = wr S50 l0 1 (v53 + 1)), (g ≤ G) ∧ Q S58) : W_X6_add_40 ω d G l0 l1 g S Q := sorry
def w_X6_init_2 (ω : AO) (d G : Nat) (l0 l1 : Int) (S : AS) (Q : AS → Prop) : Prop := Hid (Ctr ω yX6_init_2 cX6_init_2 2 none d G [(2, l0), (0, l1)] S (eU S Q))
set_option maxHeartbeats 2000000 in
theorem s_X6_init_2 {ω : AO} {d G : Nat} {l0 l1 : Int} {S : AS} {Q : AS → Prop} (hB : (1 ≤ d) ∧ (0 ≤ l0) ∧ ∃ G10 : Nat, (0 + G10 ≤ G) ∧ w_J4_min ω (d - 1) G10 2000 l1 S (fun x10 S10 => ∀ (E10 : Ext S S10) (r10 : -2147483648 ≤ x10 ∧ x10 < 2147483648), ∃ G13 : Nat, (0 + G10 + G13 ≤ G) ∧ w_J4_max ω (d - 1) G13 2 x10 S10 (fun x13 S13 => ∀ (E13 : Ext S10 S13) (r13 : -2147483648 ≤ x13 ∧ x13 < 2147483648), (0 ≤ x13) ∧ (x13 ≤ 60000000) ∧ (0 + G10 + G13 + ((x13).toNat / 5 + 2) ≤ G) ∧ ∀ (w16 : ∀ a, 0 < tg S13 a → 0 ≤ a ∧ a < nx S13) (S16 : AS) (e16 : S16 = nw S13 103 x13) (v16 : Int) (u16 : v16 = nx S13), (tg S16 l0 = 20) ∧ (bo ω ≤ l0) ∧ (-1 ≤ v16) ∧ ∀ (S18 : AS) (e18 : S18 = wr S16 l0 0 v16), Q S18))) : w_X6_init_2 ω d G l0 l1 S Q := sorry
def w_X9_add (ω : AO) (d G : Nat) (l0 l1 : Int) (S : AS) (Q : AS → Prop) : Prop := Hid (Ctr ω yX9_add cX9_add 3 none d G [(2, l0), (1, l1)] S (eU S Q))
def W_X9_add_29 (ω : AO) (d G : Nat) (l0 l1 : Int) (g : Nat) (S : AS) (Q : AS → Prop) : Prop := Hid (SJ ω yX9_add cX9_add 3 none d G (fun S0 => eU S0 Q) 29 [(2, l0), (1, l1), vN] [] g S)
set_option maxHeartbeats 2000000 in
theorem s_X9_add {ω : AO} {d G : Nat} {l0 l1 : Int} {S : AS} {Q : AS → Prop} (hB : (tg S l0 = 23) ∧ ∀ (v1 : Int) (e1 : v1 = ct S l0 1) (r1 : -2147483648 ≤ v1 ∧ v1 < 2147483648), ∀ (v5 : Int) (e5 : v5 = ct S l0 0) (r5 : -1 ≤ v5), (tg S v5 = 105) ∧ ∀ (v8 : Int) (e8 : v8 = ln S v5) (r8 : 0 ≤ v8 ∧ v8 < 2147483648), (∀ (c9 : ¬ v1 = v8), W_X9_add_29 ω d G l0 l1 (0) S Q) ∧ (∀ (c9 : v1 = v8), ∀ (v14 : Int) (e14 : v14 = ct S l0 0) (r14 : -1 ≤ v14), ∀ (v19 : Int) (e19 : v19 = ct S l0 1) (r19 : -2147483648 ≤ v19 ∧ v19 < 2147483648), (1 ≤ d) ∧ ∃ G23 : Nat, (0 + G23 ≤ G) ∧ w_J11_copyOf_4 ω (d - 1) G23 v14 (2 * v19) S (fun x23 S23 => ∀ (E23 : Ext S S23) (r23 : -1 ≤ x23), (bo ω ≤ l0) ∧ (-1 ≤ x23) ∧ ∀ (S26 : AS) (e26 : S26 = wr S23 l0 0 x23), W_X9_add_29 ω d G l0 l1 (0 + G23) S26 Q))) : w_X9_add ω d G l0 l1 S Q := sorry
set_option maxHeartbeats 2000000 in
theorem s_X9_add_29 {ω : AO} {d G : Nat} {l0 l1 : Int} {g : Nat} {S : AS} {Q : AS → Prop} (hB : (tg S l0 = 23) ∧ ∀ (v30 : Int) (e30 : v30 = ct S l0 0) (r30 : -1 ≤ v30), ∀ (v34 : Int) (e34 : v34 = ct S l0 1) (r34 : -2147483648 ≤ v34 ∧ v34 < 2147483648), (tg S v30 = 105) ∧ (bo ω ≤ v30) ∧ (0 ≤ v34 ∧ v34 < ln S v30) ∧ (-9223372036854775808 ≤ l1 ∧ l1 < 9223372036854775808) ∧ ∀ (S38 : AS) (e38 : S38 = wr S v30 v34 l1), ∀ (v41 : Int) (e41 : v41 = ct S38 l0 1) (r41 : -2147483648 ≤ v41 ∧ v41 < 2147483648), (bo ω ≤ l0) ∧ (-2147483648 ≤ (v41 + 1) ∧ (v41 + 1) < 2147483648) ∧ ∀ (S46 : AS) (e46 : S46 = wr S38 l0 1 (v41 + 1)), (g ≤ G) ∧ Q S46) : W_X9_add_29 ω d G l0 l1 g S Q := sorry
def w_X9_init (ω : AO) (d G : Nat) (l0 : Int) (S : AS) (Q : AS → Prop) : Prop := Hid (Ctr ω yX9_init cX9_init 1 none d G [(2, l0)] S (eU S Q))
set_option maxHeartbeats 2000000 in
theorem s_X9_init {ω : AO} {d G : Nat} {l0 : Int} {S : AS} {Q : AS → Prop} (hB : (1 ≤ d) ∧ (0 ≤ l0) ∧ (0 + 3 ≤ G) ∧ ∀ (w7 : ∀ a, 0 < tg S a → 0 ≤ a ∧ a < nx S) (S7 : AS) (e7 : S7 = nw S 105 8) (v7 : Int) (u7 : v7 = nx S), (tg S7 l0 = 23) ∧ (bo ω ≤ l0) ∧ (-1 ≤ v7) ∧ ∀ (S9 : AS) (e9 : S9 = wr S7 l0 0 v7), Q S9) : w_X9_init ω d G l0 S Q := sorry
def w_X9_enter (ω : AO) (d G : Nat) (l0 l1 : Int) (S : AS) (Q : AS → Prop) : Prop := Hid (Ctr ω yX9_enter cX9_enter 5 none d G [(2, l0), (1, l1)] S (eU S Q))
def W_X9_enter_5 (ω : AO) (d G : Nat) (l0 l1 l3 : Int) (g : Nat) (S : AS) (Q : AS → Prop) : Prop := Hid (SJ ω yX9_enter cX9_enter 5 none d G (fun S0 => eU S0 Q) 5 [(2, l0), (1, l1), vN, (0, l3), vN] [] g S)
def W_X9_enter_28 (ω : AO) (d G : Nat) (l0 l1 l3 : Int) (g : Nat) (S : AS) (Q : AS → Prop) : Prop := Hid (SJ ω yX9_enter cX9_enter 5 none d G (fun S0 => eU S0 Q) 28 [(2, l0), (1, l1), vN, (0, l3), vN] [] g S)
def W_X9_enter_46 (ω : AO) (d G : Nat) (l0 l1 l3 : Int) (g : Nat) (S : AS) (Q : AS → Prop) : Prop := Hid (SJ ω yX9_enter cX9_enter 5 none d G (fun S0 => eU S0 Q) 46 [(2, l0), (1, l1), vN, (0, l3), vN] [] g S)
def W_X9_enter_59 (ω : AO) (d G : Nat) (l0 l1 l3 l4 : Int) (g : Nat) (S : AS) (Q : AS → Prop) : Prop := Hid (SJ ω yX9_enter cX9_enter 5 none d G (fun S0 => eU S0 Q) 59 [(2, l0), (1, l1), vN, (0, l3), (0, l4)] [] g S)
set_option maxHeartbeats 2000000 in
theorem s_X9_enter {ω : AO} {d G : Nat} {l0 l1 : Int} {S : AS} {Q : AS → Prop} (hB : (tg S l0 = 23) ∧ ∀ (v1 : Int) (e1 : v1 = ct S l0 1) (r1 : -2147483648 ≤ v1 ∧ v1 < 2147483648), W_X9_enter_5 ω d G l0 l1 v1 (0) S Q) : w_X9_enter ω d G l0 l1 S Q := sorry
set_option maxHeartbeats 2000000 in
theorem s_X9_enter_5 {ω : AO} {d G : Nat} {l0 l1 l3 : Int} {g : Nat} {S : AS} {Q : AS → Prop} (hB : (-2147483648 ≤ l3 ∧ l3 < 2147483648) ∧ (∀ (c6 : l3 ≤ 0), W_X9_enter_28 ω d G l0 l1 l3 (g) S Q) ∧ (∀ (c6 : 0 < l3), (tg S l0 = 23) ∧ ∀ (v10 : Int) (e10 : v10 = ct S l0 0) (r10 : -1 ≤ v10), (tg S v10 = 105) ∧ (0 ≤ (l3 - 1) ∧ (l3 - 1) < ln S v10) ∧ ∀ (v16 : Int) (e16 : v16 = ct S v10 (l3 - 1)) (r16 : -9223372036854775808 ≤ v16 ∧ v16 < 9223372036854775808), (-9223372036854775808 ≤ l1 ∧ l1 < 9223372036854775808) ∧ (∀ (c19 : v16 ≤ l1), W_X9_enter_28 ω d G l0 l1 l3 (g) S Q) ∧ (∀ (c19 : l1 < v16), W_X9_enter_5 ω d G l0 l1 ((l3 + (-1))) (g) S Q))) : W_X9_enter_5 ω d G l0 l1 l3 g S Q := sorry
set_option maxHeartbeats 2000000 in
theorem s_X9_enter_28 {ω : AO} {d G : Nat} {l0 l1 l3 : Int} {g : Nat} {S : AS} {Q : AS → Prop} (hB : (-2147483648 ≤ l3 ∧ l3 < 2147483648) ∧ (∀ (c29 : l3 ≤ 0), W_X9_enter_46 ω d G l0 l1 l3 (g) S Q) ∧ (∀ (c29 : 0 < l3), (tg S l0 = 23) ∧ ∀ (v33 : Int) (e33 : v33 = ct S l0 0) (r33 : -1 ≤ v33), (tg S v33 = 105) ∧ (0 ≤ (l3 - 1) ∧ (l3 - 1) < ln S v33) ∧ ∀ (v39 : Int) (e39 : v39 = ct S v33 (l3 - 1)) (r39 : -9223372036854775808 ≤ v39 ∧ v39 < 9223372036854775808), (-9223372036854775808 ≤ l1 ∧ l1 < 9223372036854775808) ∧ (∀ (c42 : ¬ v39 = l1), W_X9_enter_46 ω d G l0 l1 l3 (g) S Q) ∧ (∀ (c42 : v39 = l1), (g ≤ G) ∧ Q S))) : W_X9_enter_28 ω d G l0 l1 l3 g S Q := sorry
set_option maxHeartbeats 2000000 in
theorem s_X9_enter_46 {ω : AO} {d G : Nat} {l0 l1 l3 : Int} {g : Nat} {S : AS} {Q : AS → Prop} (hB : (1 ≤ d) ∧ (tg S l0 = 23) ∧ ∃ G48 : Nat, (g + G48 ≤ G) ∧ w_X9_add ω (d - 1) G48 l0 0 S (fun S48 => ∀ (E48 : Ext S S48), ∀ (v52 : Int) (e52 : v52 = ct S48 l0 1) (r52 : -2147483648 ≤ v52 ∧ v52 < 2147483648), W_X9_enter_59 ω d G l0 l1 l3 ((v52 - 1)) (g + G48) S48 Q)) : W_X9_enter_46 ω d G l0 l1 l3 g S Q := sorry
set_option maxHeartbeats 2000000 in
theorem s_X9_enter_59 {ω : AO} {d G : Nat} {l0 l1 l3 l4 : Int} {g : Nat} {S : AS} {Q : AS → Prop} (hB : (-2147483648 ≤ l4 ∧ l4 < 2147483648) ∧ (-2147483648 ≤ l3 ∧ l3 < 2147483648) ∧ (∀ (c62 : l4 ≤ l3), (tg S l0 = 23) ∧ ∀ (v88 : Int) (e88 : v88 = ct S l0 0) (r88 : -1 ≤ v88), (tg S v88 = 105) ∧ (bo ω ≤ v88) ∧ (0 ≤ l3 ∧ l3 < ln S v88) ∧ (-9223372036854775808 ≤ l1 ∧ l1 < 9223372036854775808) ∧ ∀ (S93 : AS) (e93 : S93 = wr S v88 l3 l1), (g ≤ G) ∧ Q S93) ∧ (∀ (c62 : l3 < l4), (tg S l0 = 23) ∧ ∀ (v66 : Int) (e66 : v66 = ct S l0 0) (r66 : -1 ≤ v66), ∀ (v72 : Int) (e72 : v72 = ct S l0 0) (r72 : -1 ≤ v72), (tg S v72 = 105) ∧ (0 ≤ (l4 - 1) ∧ (l4 - 1) < ln S v72) ∧ ∀ (v79 : Int) (e79 : v79 = ct S v72 (l4 - 1)) (r79 : -9223372036854775808 ≤ v79 ∧ v79 < 9223372036854775808), (tg S v66 = 105) ∧ (bo ω ≤ v66) ∧ (0 ≤ l4 ∧ l4 < ln S v66) ∧ ∀ (S80 : AS) (e80 : S80 = wr S v66 l4 v79), W_X9_enter_59 ω d G l0 l1 l3 ((l4 + (-1))) (g) S80 Q)) : W_X9_enter_59 ω d G l0 l1 l3 l4 g S Q := sorry
def w_X9_has (ω : AO) (d G : Nat) (l0 l1 : Int) (S : AS) (Q : Int → AS → Prop) : Prop := Hid (Ctr ω yX9_has cX9_has 3 (some .boolean) d G [(2, l0), (1, l1)] S (eZ S Q))
set_option maxHeartbeats 2000000 in
theorem s_X9_has {ω : AO} {d G : Nat} {l0 l1 : Int} {S : AS} {Q : Int → AS → Prop} (hB : (tg S l0 = 23) ∧ ∀ (v1 : Int) (e1 : v1 = ct S l0 0) (r1 : -1 ≤ v1), ∀ (v6 : Int) (e6 : v6 = ct S l0 1) (r6 : -2147483648 ≤ v6 ∧ v6 < 2147483648), (1 ≤ d) ∧ ∃ G10 : Nat, (0 + G10 ≤ G) ∧ w_J11_binarySearch ω (d - 1) G10 v1 0 v6 l1 S (fun x10 S10 => ∀ (E10 : Ext S S10) (r10 : -2147483648 ≤ x10 ∧ x10 < 2147483648), (∀ (c13 : x10 < 0), (0 + G10 ≤ G) ∧ Q 0 S10) ∧ (∀ (c13 : 0 ≤ x10), (0 + G10 ≤ G) ∧ Q 1 S10))) : w_X9_has ω d G l0 l1 S Q := sorry
/-! 55.rows.lean.txt -/
/-! rows that grow: Ints, Text, Hits, Store -/
set_option maxRecDepth 100000
def RowS (ω : AO) (S : AS) (t et : Nat) (a : Int) (l : List Int) (c : Int) : Prop := tg S a = t ∧ bo ω ≤ a ∧ RowC ω S et a l c
/-- the capacity, the cost of one more -/
def rwC (c n : Int) : Int := if n = c then 2 * c else c
def rwK (c n : Int) : Int := if n = c then 2 * c / 5 + 2 else 0
section ROWSS
variable {ω : AO} {d G g : Nat} {S S' S1 S2 S3 S5 : AS} {a b i n f v u x y c c' r : Int} {l m : List Int} {t et : Nat} {Q : Int → AS → Prop} {QV : AS → Prop}
theorem RowS.ne (h : RowS ω S t et a l c) (hte : t ≠ et) : a ≠ ct S a 0 := sorry
theorem RowS.push (h : RowS ω S t et a l c) (hte : 0 < t ∧ 0 < et ∧ t ≠ et) (hlt : len l < c) (e3 : S3 = wr S (ct S a 0) (len l) x) (e5 : S5 = wr S3 a 1 (len l + 1)) : RowS ω S5 t et a (l ++ [x]) c ∧ BKp ω S S5 a := sorry
theorem RowS.grown (h : RowS ω S t et a l c) (hte : 0 < t ∧ 0 < et ∧ t ≠ et) (w : bel S) (k1 : Ext S S') (k2 : nx S' = nx S + 1) (k3 : Kp S S' (fun _ => False)) (k4 : tg S' (nx S) = et) (k5 : ln S' (nx S) = c') (k6 : ∀ k, 0 ≤ k → k < len l → ct S' (nx S) k = ct S (ct S a 0) k) (hc : len l ≤ c' ∧ 1 ≤ c') (hb : bo ω ≤ nx S) (e : S2 = wr S' a 0 (nx S)) :
    RowS ω S2 t et a l c' ∧ BKp ω S S2 a ∧ ct S2 a 0 = nx S := sorry
theorem t_J11_copyOf_4 (hd : 1 ≤ d) (ht : tg S v = 105) (hn : ln S v < n ∧ n ≤ 60000000) (h0 : 0 ≤ ln S v) (hG : n.toNat / 5 + 2 ≤ G) (hb : (∀ a, 0 < tg S a → 0 ≤ a ∧ a < nx S) → bo ω ≤ nx S)
    (hQ : ∀ S', (∀ a, 0 < tg S a → 0 ≤ a ∧ a < nx S) → Ext S S' → nx S' = nx S + 1 → Kp S S' (fun _ => False) → tg S' (nx S) = 105 → ln S' (nx S) = n → (∀ k, 0 ≤ k → k < ln S v → ct S' (nx S) k = ct S v k) → Q (nx S) S') : w_J11_copyOf_4 ω d G v n S Q := sorry
theorem t_J11_copyOf_5 (hd : 1 ≤ d) (ht : tg S v = 104) (hn : ln S v < n ∧ n ≤ 60000000) (h0 : 0 ≤ ln S v) (hG : n.toNat / 5 + 2 ≤ G) (hb : (∀ a, 0 < tg S a → 0 ≤ a ∧ a < nx S) → bo ω ≤ nx S)
    (hQ : ∀ S', (∀ a, 0 < tg S a → 0 ≤ a ∧ a < nx S) → Ext S S' → nx S' = nx S + 1 → Kp S S' (fun _ => False) → tg S' (nx S) = 104 → ln S' (nx S) = n → (∀ k, 0 ≤ k → k < ln S v → ct S' (nx S) k = ct S v k) → Q (nx S) S') : w_J11_copyOf_5 ω d G v n S Q := sorry
theorem t_J11_copyOf_6 (hd : 1 ≤ d) (ht : tg S v = 103) (hn : ln S v < n ∧ n ≤ 60000000) (h0 : 0 ≤ ln S v) (hG : n.toNat / 5 + 2 ≤ G) (hb : (∀ a, 0 < tg S a → 0 ≤ a ∧ a < nx S) → bo ω ≤ nx S)
    (hQ : ∀ S', (∀ a, 0 < tg S a → 0 ≤ a ∧ a < nx S) → Ext S S' → nx S' = nx S + 1 → Kp S S' (fun _ => False) → tg S' (nx S) = 103 → ln S' (nx S) = n → (∀ k, 0 ≤ k → k < ln S v → ct S' (nx S) k = ct S v k) → Q (nx S) S') : w_J11_copyOf_6 ω d G v n S Q := sorry
theorem t_X5_add_29 (h : RowS ω S 19 104 a l c) (hlt : len l < c) (hc : c ≤ 60000000) (hx : inI x) (hg : g ≤ G) (hQ : ∀ S', RowS ω S' 19 104 a (l ++ [x]) c → BKp ω S S' a → QV S') : W_X5_add_29 ω d G a x g S QV := sorry
theorem t_X5_add (hd : 2 ≤ d) (h : RowS ω S 19 104 a l c) (w : bel S) (hx : inI x) (hb : bo ω ≤ nx S) (hc : rwC c (len l) ≤ 60000000) (hG : rwK c (len l) ≤ (G : Int)) (hQ : ∀ S', RowS ω S' 19 104 a (l ++ [x]) (rwC c (len l)) → BKp ω S S' a → QV S') : w_X5_add ω d G a x S QV := sorry
theorem t_X9_add_29 (h : RowS ω S 23 105 a l c) (hlt : len l < c) (hc : c ≤ 60000000) (hx : inL x) (hg : g ≤ G) (hQ : ∀ S', RowS ω S' 23 105 a (l ++ [x]) c → BKp ω S S' a → QV S') : W_X9_add_29 ω d G a x g S QV := sorry
theorem t_X9_add (hd : 2 ≤ d) (h : RowS ω S 23 105 a l c) (w : bel S) (hx : inL x) (hb : bo ω ≤ nx S) (hc : rwC c (len l) ≤ 60000000) (hG : rwK c (len l) ≤ (G : Int)) (hQ : ∀ S', RowS ω S' 23 105 a (l ++ [x]) (rwC c (len l)) → BKp ω S S' a → QV S') : w_X9_add ω d G a x S QV := sorry
theorem t_X6_add_40 (h : RowS ω S 20 103 a l c) (hlt : len l < c) (hc : c ≤ 60000000) (hg : g ≤ G) (hQ : ∀ S', RowS ω S' 20 103 a (l ++ [x % 65536]) c → BKp ω S S' a → QV S') : W_X6_add_40 ω d G a x g S QV := sorry
/-- Text stops at 2000 -/
theorem t_X6_add (hd : 2 ≤ d) (h : RowS ω S 20 103 a l c) (w : bel S) (hb : bo ω ≤ nx S) (hl0 : len l < 2000) (hc : rwC c (len l) ≤ 60000000) (hG : rwK c (len l) ≤ (G : Int)) (hQ : ∀ S', RowS ω S' 20 103 a (l ++ [x % 65536]) (rwC c (len l)) → BKp ω S S' a → QV S') : w_X6_add ω d G a x S QV := sorry
theorem t_X5_init (hd : 1 ≤ d) (ht : tg S a = 19) (ha : 0 ≤ a) (hb : bo ω ≤ a) (h1 : ct S a 1 = 0) (hbn : bo ω ≤ nx S) (hG : 3 ≤ G) (hQ : ∀ S', RowS ω S' 19 104 a [] 8 → Kp S S' (fun b => b = a) → nx S ≤ ct S' a 0 → QV S') : w_X5_init ω d G a S QV := sorry
theorem t_X9_init (hd : 1 ≤ d) (ht : tg S a = 23) (ha : 0 ≤ a) (hb : bo ω ≤ a) (h1 : ct S a 1 = 0) (hbn : bo ω ≤ nx S) (hG : 3 ≤ G) (hQ : ∀ S', RowS ω S' 23 105 a [] 8 → Kp S S' (fun b => b = a) → nx S ≤ ct S' a 0 → QV S') : w_X9_init ω d G a S QV := sorry
theorem t_X50_init (hd : 1 ≤ d) (ht : tg S a = 55) (ha : 0 ≤ a) (hb : bo ω ≤ a) (h1 : ct S a 1 = 0) (hbn : bo ω ≤ nx S) (hG : 14 ≤ G) (hQ : ∀ S', RowS ω S' 55 101 a [] 64 → Kp S S' (fun b => b = a) → nx S ≤ ct S' a 0 → QV S') : w_X50_init ω d G a S QV := sorry
theorem t_X6_init_2 (hd : 1 ≤ d) (ht : tg S a = 20) (ha : 0 ≤ a) (hb : bo ω ≤ a) (h1 : ct S a 1 = 0) (hbn : bo ω ≤ nx S) (hn : inI n) (hG : (max 2 (min 2000 n)).toNat / 5 + 2 ≤ G) (hQ : ∀ S', RowS ω S' 20 103 a [] (max 2 (min 2000 n)) → Kp S S' (fun b => b = a) → nx S ≤ ct S' a 0 → QV S') : w_X6_init_2 ω d G a n S QV := sorry
end ROWSS

/-! 56.lr.lean.txt -/
/-! level 2: rows that grow -/
set_option maxRecDepth 100000
section LR
variable {ω : AO} {S S' : AS} {d G : Nat} {Θ Θ' : Th} {ow : Int → Int} {a b i n r s x y q u : Int} {t et : Nat} {c c' c2 e e2 : Int} {l l' m : List Int} {Q : Int → Th → Prop} {QV : Th → Prop}
theorem RV.rw (h : RV ω S Θ ow a (t, l, c, e)) (ht : rowT t = et) (h0 : 0 < et) : tg S a = t ∧ RowC ω S et a l c ∧ kd Θ (ct S a 0) = 0 ∧ ow (ct S a 0) = a := sorry
theorem RV.mkR (ht : rowT t = et) (h0 : 0 < et) (h1 : tg S a = t) (h2 : RowC ω S et a l c) (h3 : kd Θ (ct S a 0) = 0) (h4 : ow (ct S a 0) = a) : RV ω S Θ ow a (t, l, c, e) := sorry
theorem R2.rowS (h : R2 ω S Θ) (hx : xo Θ a = (t, l, c, e)) (hf : ¬ fz Θ a) (ht : rowT t = et) (h0 : 0 < et) : RowS ω S t et a l c := sorry
theorem R2.updR (h : R2 ω S Θ) (w : bel S) (E : Ext S S') (hx : xo Θ a = (t, l, c, e)) (hf : ¬ fz Θ a) (ht : rowT t = et) (h0 : 0 < et) (K : BKp ω S S' a) (L : RowS ω S' t et a l' c') : R2 ω S' (uq Θ a (t, l', c', e)) := sorry
theorem u_X5_add (hd : 2 ≤ d) (h : xo Θ a = (19, l, c, e)) (hf : ¬ fz Θ a) (hx : inI x) (hc : rwC c (len l) ≤ 60000000) (hG : rwK c (len l) ≤ (G : Int)) (hQ : ∀ Θ', Θ' = uq Θ a (19, l ++ [x], rwC c (len l), e) → QV Θ') : w2_X5_add ω d G a x Θ QV := sorry
theorem u_X9_add (hd : 2 ≤ d) (h : xo Θ a = (23, l, c, e)) (hf : ¬ fz Θ a) (hx : inL x) (hc : rwC c (len l) ≤ 60000000) (hG : rwK c (len l) ≤ (G : Int)) (hQ : ∀ Θ', Θ' = uq Θ a (23, l ++ [x], rwC c (len l), e) → QV Θ') : w2_X9_add ω d G a x Θ QV := sorry
theorem u_X6_add (hd : 2 ≤ d) (h : xo Θ a = (20, l, c, e)) (hf : ¬ fz Θ a) (hl : len l < 2000) (hc : rwC c (len l) ≤ 60000000) (hG : rwK c (len l) ≤ (G : Int)) (hQ : ∀ Θ', Θ' = uq Θ a (20, l ++ [x % 65536], rwC c (len l), e) → QV Θ') : w2_X6_add ω d G a x Θ QV := sorry
theorem R2.mkRow (R : R2 ω S Θ) (w : bel S) (E : Ext S S') (hk : kd Θ a = 200 + t) (ht : rowT t = et) (h0 : 0 < et) (k1 : RowS ω S' t et a l c) (k2 : Kp S S' (fun b => b = a)) (k3 : nx S ≤ ct S' a 0) : R2 ω S' (uq Θ a (t, l, c, 0)) := sorry
theorem u_X5_init (hd : 1 ≤ d) (hk : kd Θ a = 219) (hG : 3 ≤ G) (hQ : ∀ Θ', Θ' = uq Θ a (19, [], 8, 0) → QV Θ') : w2_X5_init ω d G a Θ QV := sorry
theorem u_X9_init (hd : 1 ≤ d) (hk : kd Θ a = 223) (hG : 3 ≤ G) (hQ : ∀ Θ', Θ' = uq Θ a (23, [], 8, 0) → QV Θ') : w2_X9_init ω d G a Θ QV := sorry
theorem u_X50_init (hd : 1 ≤ d) (hk : kd Θ a = 255) (hG : 14 ≤ G) (hQ : ∀ Θ', Θ' = uq Θ a (55, [], 64, 0) → QV Θ') : w2_X50_init ω d G a Θ QV := sorry
theorem u_X6_init_2 (hd : 1 ≤ d) (hk : kd Θ a = 220) (hn : inI n) (hG : (max 2 (min 2000 n)).toNat / 5 + 2 ≤ G) (hQ : ∀ Θ', Θ' = uq Θ a (20, [], max 2 (min 2000 n), 0) → QV Θ') : w2_X6_init_2 ω d G a n Θ QV := sorry
end LR

