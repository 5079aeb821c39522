/-! Throwable's constructor, called from below: no trace is taken -/
set_option maxRecDepth 100000
/-- the words that the row asks; own: whose body stands, sup: whose constructor is called, X: what the object is -/
def thA (own sup X : String) (names : List String) (ic : Nat) : List Cond := Bundle.throwableAtoms ++ Bundle.chain0Atoms sup names ++
  [.methodLink own ic (Bundle.init0 sup), .instanceMethod (Bundle.init0 sup), .code (Bundle.init0 sup) Bundle.five 1 none, .selects X Bundle.tFill0 Bundle.tFill0, .selects X Bundle.tFill Bundle.tFill, .fieldLink Bundle.tN 198 Bundle.tN "backtrace" "Ljava/lang/Object;", .lays Bundle.tN Bundle.tN "backtrace" "Ljava/lang/Object;",
   .lays X Bundle.tN "cause" "Ljava/lang/Throwable;", .lays X Bundle.tN "stackTrace" Bundle.steD, .lays X Bundle.tN "suppressedExceptions" Bundle.listD, .lays X Bundle.tN "backtrace" "Ljava/lang/Object;"]
/-- it begins with Throwable's fields -/
def thrF (T : u_T) (t : Nat) : Prop := T 0 = (Bundle.tN, "cause", "Ljava/lang/Throwable;", false) ∧ T 1 = (Bundle.tN, "stackTrace", Bundle.steD, false) ∧ T 2 = (Bundle.tN, "suppressedExceptions", Bundle.listD, false) ∧ T 4 = (Bundle.tN, "backtrace", "Ljava/lang/Object;", false) ∧
  (∃ C, fty t 0 = .object C) ∧ (∃ C, fty t 1 = .array (.object C)) ∧ (∃ C, fty t 2 = .object C) ∧ ∃ C, fty t 4 = .object C
section THR
variable {p : Program} {l : Launch} {e : Env} {R : Room} {s : State} {m : MethodId} {args : Array Value} {below : List Frame} {meth : Method} {c : Code} {cc : ByteArray} {nL : Nat} {own : String} {ret : Option FieldType} {D : va_G} {sa : String → Nat → Nat} {b0 : Nat} {Z : Heap → Prop} {d G : Nat}
variable {F : AF p l e R s m args below meth c cc nL own ret D sa b0 Z d G} {P : Option AV → AS → Prop} {pc : Nat} {vs vs' st : List AV} {g : Nat} {S : AS} {x y a i : Int} {idx t k : Nat} {ty : FieldType} {H : Heap}
/-- a field of an object is written in the heap -/
theorem AR.slot {C : String} {T : u_T} {N : Nat} {cell : Cell} {v : Value} (hZ : AZ sa b0 Z) (hap : ∀ i j, i < N → j < N → i ≠ j → D.2 t i ≠ D.2 t j) (hR : AR D b0 Z S H) (ht : tg S a = t) (h0 : 0 < t ∧ t < 71) (hb : (b0 : Int) ≤ a) (hq : aCl[t]? = some (C, T, N)) (hk : k < N) (hc : H[a.toNat]? = some cell) (hx : inT (fty t k) x) (hv : dt (fty t k) x = v) : AR D b0 Z (wr S a k x) (H.setIfInBounds a.toNat (cell.setSlot (D.2 t k) v)) := by
  have hcell := hR.cell ht h0.1
  unfold aCell at hcell
  rw [if_pos (by omega)] at hcell
  obtain ⟨cell9, q1, q2, q3, q4⟩ := hcell
  cases hc.symm.trans q1
  have hnF : nF t = N := by unfold nF; rw [hq]; rfl
  have hlt := (Array.getElem?_eq_some_iff.mp hc).1
  have e1 : (H.setIfInBounds a.toNat (cell.setSlot (D.2 t k) v))[a.toNat]? = some (cell.setSlot (D.2 t k) v) := by simp [Array.getElem?_setIfInBounds, hlt]
  refine hR.put hZ ht h0.1 hb (kk := k) (by rw [if_pos (by omega), Int.toNat_natCast]; exact hx) ?_ (by simp) (fun q hq => by simp [Array.getElem?_setIfInBounds, Ne.symm hq]) (fun _ => ⟨_, _, hc, e1, rfl⟩)
  unfold aCell
  rw [if_pos (by omega)]
  refine t_OB.to (V := updV (fun j => dt (fty t j) (ct S a j)) k v) ⟨_, e1, q2, q3, t_set q4 (fun i j hi hj hne => hap i j (by simpa [hnF] using hi) (by simpa [hnF] using hj) hne) (by omega) _⟩ (fun j _ => ?_)
  unfold updV
  dsimp only
  by_cases hj : j = k
  · subst hj; simp [hv]
  · rw [if_neg hj, if_neg (by omega)]
/-- a frame seen from a rebased start, seen from the first start again -/
theorem vx_back9L {T U : State} {R' : Room} {k n cells slots : Nat} {locs L : List Loc} (X : Stand p l e R s m args below meth c T locs cells slots) (Y : Stand p l e R' ((T.setVm s.vm).setFrames (.invoking m args :: below)) m args below meth c T [] 0 0) (Z : Stand p l e R' ((T.setVm s.vm).setFrames (.invoking m args :: below)) m args below meth c U L k n) :
    Stand p l e R s m args below meth c U (locs ++ L) (cells + k) (slots + n) := by
  have hW0 : s.WarmedH ((T.setVm s.vm).setFrames (.invoking m args :: below)).vm := State.WarmedH.refl s
  refine { admits := X.admits, cas := X.cas, clock := X.clock, frames := X.frames, room := X.room, hears := X.hears, method := X.method, code := X.code, here := Z.here, tail := Z.tail, warmed := State.WarmedH.trans hW0 Z.warmed, limits := Z.limits.trans (Y.limits.symm.trans X.limits), bytes := Z.bytes.trans (Y.bytes.symm.trans X.bytes), same := ?_ }
  obtain ⟨e1, e2⟩ := Z.same
  rw [State.setFrames_setFrames] at e1
  have h2 : (T.setVm s.vm).sameButNew (U.setVm s.vm) L k n := ⟨e1, e2⟩
  exact X.same.trans h2
theorem vx_L.word' {C n d : String} {A : Nat → Prop} {s : State} {H : Heap} {args : Array Value} (h : vx_L C n d A s H) (e : s.heap = H) : (Cond.laysStatic C n d).before args s = true := vx_L.word (by rw [e]; exact h)
/-- the two statics of Throwable -/
theorem th_L (F : AF p l e R s m args below meth c cc nL own ret D sa b0 Z d G) (hZ : Z H) (i : Nat) {C n ds : String} {o : Option Int} (hq : aSt[i]? = some (C, n, ds, o)) : vx_L C n ds (fun _ => False) s H := by
  obtain ⟨cf, kf, fi, f, h1, h2, h3, h4, h5, h6, h7, h8⟩ := F.2.2.2.2.2.2.2.1.2.2.2.2.2.1 i _ hq
  obtain ⟨cell, c1, c2, c3, c4⟩ := F.2.2.2.2.2.2.2.2.1.2 H hZ i _ hq
  exact ⟨cf, kf, fi, f, sa "#A" i, cell, h6, h1, h2, h4, c1, c2, by rw [c4, h7], by rw [h5]; exact (Array.getElem?_eq_some_iff.mp c3).1, h8, fun z => z⟩
theorem th_isRef (x : Int) : (dv (2, x)).isRef = true := by
  show (rV x).isRef = true
  unfold rV
  split <;> rfl
/-- Throwable's constructor, called through those that pass it on -/
theorem aw_thr {sup X : String} {TX : u_T} {N ic : Nat} {names : List String} (hl : l.stackTraces = false) (hsup : Bundle.fit sup = true) (hnames : ∀ n ∈ names, Bundle.fit n = true)
    (hw : ∀ w ∈ thA own sup X names ic, w = .laysStatic Bundle.tN "UNASSIGNED_STACK" Bundle.steD ∨ w = .laysStatic Bundle.tN "SUPPRESSED_SENTINEL" Bundle.listD ∨ (w.before args s = true ∧ vx_ot w = true))
    (hd : decode cc pc = .ok (.invokespecial ic, 3)) (hq : aCl[t]? = some (X, TX, N)) (h0 : 0 < t ∧ t < 71) (hN : 5 ≤ N) (hT : thrF TX t) (ht : tg S a = t) (hb : (b0 : Int) ≤ a) (h4 : ct S a 4 = -1) (hcat : catS st ≤ 8) (hdd : names.length + 4 ≤ d) (hgG : g ≤ G)
    (kk : AW F P (pc + 3) vs st g (wr (wr (wr S a 0 a) a 1 ((sa "#V" 20 : Int) - 1)) a 2 ((sa "#V" 21 : Int) - 1))) : AW F P pc vs ((2, a) :: st) g S := by
  intro H locs L hR hL hA T hTH X0
  subst hTH
  have hts := F.2.2.2.2.1
  have hK := F.2.2.2.2.2.2.2.1
  have hZ := F.2.2.2.2.2.2.2.2.1
  have hRm := F.2.2.2.2.2.2.2.2.2
  have hb' : c.code = cc := F.2.1
  have htr : e.platform.stackTraces = false := (show e.platform.stackTraces = l.stackTraces by rw [X0.admits.platform]).trans hl
  have howns : e.platform.frameOwnsMonitors = true := by rw [X0.admits.platform]
  have hfin : e.platform.finalization = false := by rw [X0.admits.platform]
  have hpl : e.platform.magicAccessors = ({} : Platform).magicAccessors := by rw [X0.admits.platform]
  have Y0 := vx_rebase X0 (R' := { frames := R.frames, locals := R.locals, cells := 0, slots := 0 }) (Nat.le_refl _) (Nat.le_refl _) (by rw [hRm]; exact hgG) (by rw [hRm]; show 5 * g ≤ 5 * G; omega)
  have Y9 := Y0
  obtain ⟨s', hA'⟩ : ∃ z, z = (T.setVm s.vm).setFrames (.invoking m args :: below) := ⟨_, rfl⟩
  rw [← hA'] at Y9
  have hvm : s'.vm = s.vm := by rw [hA']; rfl
  have hhp : s'.heap = T.heap := by rw [hA']; rfl
  have hW0 : s.WarmedH s'.vm := by rw [hvm]; exact State.WarmedH.refl s
  have hU' := (vx_L.moved hW0.alike (th_L F hR.2.2.2.2 20 rfl)).word' hhp (args := args)
  have hN' := (vx_L.moved hW0.alike (th_L F hR.2.2.2.2 21 rfl)).word' hhp (args := args)
  have hw' : ∀ w ∈ thA own sup X names ic, w.before args s' = true := fun w h => by
    rcases hw w h with rfl | rfl | ⟨h1, h2⟩
    · exact hU'
    · exact hN'
    · exact vx_ot_at hW0 hvm.symm h2 h1
  have a' : ∀ x, x ∈ thA own sup X names ic → x.holds args s' none s' [] = true := fun x hx => hw' x hx
  have hown' : s'.vm.findClass own = some m.cls := by rw [hvm]; exact F.2.2.2.1
  obtain ⟨TC, ZC, LC, LZ, YC⟩ := ThrowableC.of_atoms (args := args) howns hfin hpl (fun x hx => hw' x (by simp [thA, hx]))
  obtain ⟨P1, Ps, hlen, L1, hLs, hP1m, hlink1, hlink⟩ := Bundle.chain0 (args := args) hpl YC.init0 names sup hsup hnames (fun x hx => hw' x (by simp [thA, hx]))
  obtain ⟨⟨hS, hfc, kC, hkC, hkind⟩, hap⟩ := hK.1 t _ h0.1 hq
  have hfc' : s'.vm.findClass X = some (D.1 t) := by rw [hvm]; exact hfc
  have hkC' : s'.vm.classes[D.1 t]? = some kC := by rw [hvm]; exact hkC
  have hcell := hR.cell ht h0.1
  unfold aCell at hcell
  rw [if_pos (by omega)] at hcell
  obtain ⟨cell, q1, q2, q3, q4⟩ := hcell
  have ha0 := (hR.2.2.1.tag (a := a) (by omega)).1
  have hnF : nF t = N := by unfold nF; rw [hq]; rfl
  have hmon := hZ.1.2 T.heap hR.2.2.2.2 a.toNat cell (by omega) q1
  have hsel0 : selectMethod e.platform s'.vm cell.cls TC.fill0 = .method TC.fill0 := by
    obtain ⟨c2, r2, m2, p1, p2, p3, p4, -⟩ := Cond.selects_spec (a' (.selects X Bundle.tFill0 Bundle.tFill0) (by simp [thA]))
    cases Option.some.inj (p1.symm.trans hfc')
    cases Option.some.inj (p2.symm.trans (State.methodFound?_of_named YC.fill0 (by decide)))
    cases Option.some.inj (p3.symm.trans YC.fill0)
    rw [Launch.admits_selectMethod X0.admits, q2]; exact p4
  have hselF : selectMethod e.platform s'.vm cell.cls TC.fill = .method TC.fill := by
    obtain ⟨c2, r2, m2, p1, p2, p3, p4, -⟩ := Cond.selects_spec (a' (.selects X Bundle.tFill Bundle.tFill) (by simp [thA]))
    cases Option.some.inj (p1.symm.trans hfc')
    cases Option.some.inj (p2.symm.trans (State.methodFound?_of_named YC.fill (by decide)))
    cases Option.some.inj (p3.symm.trans YC.fill)
    rw [Launch.admits_selectMethod X0.admits, q2]; exact p4
  -- the statics
  obtain ⟨cfU, kfU, fiU, fU, u1, u2, u3, u4, u5, -⟩ := hK.2.2.2.2.2.1 20 _ rfl
  obtain ⟨cellU, v1, v2, v3, -⟩ := hZ.2 T.heap hR.2.2.2.2 20 _ rfl
  obtain ⟨cfS, kfS, fiS, fS, w1, w2, w3, w4, w5, -⟩ := hK.2.2.2.2.2.1 21 _ rfl
  obtain ⟨cellS, y1, y2, y3, -⟩ := hZ.2 T.heap hR.2.2.2.2 21 _ rfl
  have hff : ∀ C n ds, s'.fieldFound? C n ds = s.fieldFound? C n ds := fun C n ds => by simp only [State.fieldFound?, hvm]
  have yU := YC.unassigned
  have yS := YC.sentinel
  rw [hff] at yU yS
  cases Option.some.inj (u1.symm.trans yU)
  cases Option.some.inj (w1.symm.trans yS)
  have eA1 : TC.aS = sa "#A" 20 := Option.some.inj (LC.statics.symm.trans u4)
  have eA2 : TC.aS = sa "#A" 21 := Option.some.inj (LC.statics.symm.trans w4)
  rw [← eA1] at v1
  rw [← eA2] at y1
  cases Option.some.inj (v1.symm.trans y1)
  have hneS : TC.aS ≠ a.toNat := fun z => by
    rw [z] at v1
    cases Option.some.inj (v1.symm.trans q1)
    rw [q3] at v2
    cases v2
  have hknownS : cellU.vm ≠ .unknown := fun z => by rw [z] at v2; cases v2
  -- the fields' places
  have SL : ∀ (k : Nat) (n ds : String) (f : Field) (c9 : ClassId) (k9 : Class) (i9 : Nat), k < N → (TX k).1 = Bundle.tN → (TX k).2.1 = n → (TX k).2.2.1 = ds → s'.fieldFound? Bundle.tN n ds = some (c9, k9, i9, f) → f.slot = D.2 t k := fun k n ds f c9 k9 i9 hk e1 e2 e3 hf => by
    obtain ⟨cf, kf, fi, fd, z1, z2⟩ := hS k hk
    rw [e1, e2, e3, ← hff, hf] at z1
    cases Option.some.inj z1
    exact z2
  obtain ⟨t0, t1, t2, t4, ⟨C0, f0⟩, ⟨C1, f1⟩, ⟨C2, f2⟩, ⟨C4, f4⟩⟩ := hT
  have eC := SL 0 _ _ _ _ _ _ (by omega) (by rw [t0]) (by rw [t0]) (by rw [t0]) YC.cause
  have eS := SL 1 _ _ _ _ _ _ (by omega) (by rw [t1]) (by rw [t1]) (by rw [t1]) YC.stack
  have eP := SL 2 _ _ _ _ _ _ (by omega) (by rw [t2]) (by rw [t2]) (by rw [t2]) YC.supp
  obtain ⟨ci198, i198, fB, hk198, hg198, ha198, hsB, -, hnB, htB, hffB⟩ := Cond.ownField (t := .object "java/lang/Object") YC.found LC.cls (by decide +kernel) (a' (.fieldLink Bundle.tN 198 Bundle.tN "backtrace" "Ljava/lang/Object;") (by simp [thA])) (a' (.lays Bundle.tN Bundle.tN "backtrace" "Ljava/lang/Object;") (by simp [thA])) e.platform hpl
  have eB := SL 4 _ _ _ _ _ _ (by omega) (by rw [t4]) (by rw [t4]) (by rw [t4]) hffB
  obtain ⟨tyC, -⟩ := Cond.laysAt hfc' hkC' YC.cause (a' (.lays X Bundle.tN "cause" "Ljava/lang/Throwable;") (by simp [thA]))
  obtain ⟨tyS, -⟩ := Cond.laysAt hfc' hkC' YC.stack (a' (.lays X Bundle.tN "stackTrace" Bundle.steD) (by simp [thA]))
  obtain ⟨tyP, -⟩ := Cond.laysAt hfc' hkC' YC.supp (a' (.lays X Bundle.tN "suppressedExceptions" Bundle.listD) (by simp [thA]))
  have TK : ∀ (k : Nat) (f : Field) (v : Value), k < N → f.slot = D.2 t k → kC.instanceTypes[f.slot]? = some f.type → fits f.type v = true → Takes s' cell f v := fun k f v hk he hty hv => by
    refine ⟨?_, ?_⟩
    · rw [he]
      exact (Array.getElem?_eq_some_iff.mp (q4 k (by omega))).1
    · rw [q2, q3]
      simp [State.fitsSlot, State.slotType?, hkC', hkind, hty, hv]
  have bC : D.2 t 4 ≠ D.2 t 0 := hap 4 0 (show 4 < N by omega) (show 0 < N by omega) (by decide)
  have bS : D.2 t 4 ≠ D.2 t 1 := hap 4 1 (show 4 < N by omega) (show 1 < N by omega) (by decide)
  have bP : D.2 t 4 ≠ D.2 t 2 := hap 4 2 (show 4 < N by omega) (show 2 < N by omega) (by decide)
  have hnull : cell.slots[D.2 t 4]? = some .null := by
    rw [q4 4 (by omega)]
    show some (dt (fty t 4) (ct S a 4)) = _
    rw [f4, h4]
    rfl
  have hlink9 : (Cond.methodLink own ic (Bundle.init0 sup)).before args s' = true := hw' _ (by simp [thA])
  obtain ⟨tm, methC, cdC, kC9, vm₁, hnC, -, -, -, -, -, -, -, hW₁, st1⟩ := Steps.initCold (tb := p.tables) (e := e) (below := below) (s := s') (U := T) Y9.here F.1 Y9.warmed hpl hown' (t := Bundle.init0 sup) rfl rfl (Bundle.fit_spec hsup).2
    hlink9 (hw' (.instanceMethod (Bundle.init0 sup)) (by simp [thA])) (bytes := Bundle.five) (maxL := 1) (hw' (.code (Bundle.init0 sup) Bundle.five 1 none) (by simp [thA]))
    (f := F0 m pc L (((2, a) :: st).map dv)) rfl (a := a.toNat) (rest := st.map dv) (by show dv (2, a) :: st.map dv = _; rw [show dv (2, a) = .ref a.toNat from rV_of ha0]) (by rw [hb']; exact hd)
  cases Option.some.inj (hnC.symm.trans hP1m)
  have X₁ := Y9.noted hW₁
  have hskip : SkipFacts TC e.platform s' (fun u => u) ⟨dv (sval sa 20), th_isRef _⟩ ((preparedCellV TC.toThrowableT cell a.toNat ⟨dv (sval sa 20), th_isRef _⟩ ⟨dv (sval sa 21), th_isRef _⟩).withEntry (T.setVm vm₁).cur) :=
    ⟨{ ci198 := ci198, i198 := i198, fBack := fB }, ⟨hk198, hg198, ha198, hsB⟩, by
      have := hnull
      simpa [preparedCellV, Cell.setSlot, Cell.withEntry, Array.getElem?_setIfInBounds, eB, eC, eS, eP, bC, bS, bP, bC.symm, bS.symm, bP.symm] using this, fun _ _ => rfl⟩
  have h9 := lv_room (m := m) (pc := pc) (ls := L) (rest := (((2, a) :: st).map dv)) (st := st.map dv) (by rw [catS_sum]; exact hcat)
  obtain ⟨vm₂, X₂, st2⟩ := X₁.ctorPlainOffV F.1 (g := { F0 m pc L (((2, a) :: st).map dv) with stack := st.map dv }) rfl (by show L.size = _; rw [F.2.2.1]; exact hA.1) TC LC ZC LZ (P1 :: Ps)
    (fun P hP => by rcases List.mem_cons.mp hP with rfl | hP; exact L1; exact hLs P hP) ⟨hlink1, hlink⟩ (u0 := ⟨dv (sval sa 20), th_isRef _⟩) (sen := ⟨dv (sval sa 21), th_isRef _⟩) (self := a.toNat) (cell := cell) (cellS := cellU)
    q1 (fun k z => by rw [q3] at z; cases z) (fun z => by rw [q3] at z; cases z) hmon.1 hmon.2 hsel0 hselF v1 hneS hknownS (by rw [u5]; exact v3) (by rw [w5]; exact y3)
    (TK 0 _ _ (by omega) eC tyC (by rw [YC.causeType]; rfl)) (TK 1 _ _ (by omega) eS tyS (by rw [YC.stackType]; exact fits_refV_array _ _)) (TK 2 _ _ (by omega) eP tyP (by rw [YC.suppType]; exact fits_refV_object _ _)) YC.objLocals hskip htr [] (by rw [hb']; exact hd)
    (by rw [hRm, List.length_cons, hlen]; show names.length + 1 + 2 < d; omega) (by rw [hRm, List.length_cons, hlen]; refine Nat.le_trans (Nat.add_le_add_right h9 _) ?_; show 8 + (13 * (names.length + 1) + 41) ≤ 80 * d; omega)
  -- the heap then
  have hlt := (Array.getElem?_eq_some_iff.mp q1).1
  have hap' : ∀ i j, i < N → j < N → i ≠ j → D.2 t i ≠ D.2 t j := hap
  have sv20 : dv (sval sa 20) = dt (fty t 1) ((sa "#V" 20 : Int) - 1) := by rw [f1]; rfl
  have sv21 : dv (sval sa 21) = dt (fty t 2) ((sa "#V" 21 : Int) - 1) := by rw [f2]; rfl
  have r0 : AR D b0 Z (wr S a 0 a) (T.heap.setIfInBounds a.toNat (cell.setSlot (D.2 t 0) (.ref a.toNat))) := AR.slot (k := 0) hZ hap' hR ht h0 hb hq (by omega) q1 (by rw [f0]; show -1 ≤ a; omega) (by rw [f0]; exact rV_of ha0)
  have l1 : ∀ (H : Heap) (c9 : Cell), a.toNat < H.size → (H.setIfInBounds a.toNat c9)[a.toNat]? = some c9 := fun H c9 h => by simp [Array.getElem?_setIfInBounds, h]
  have r1 := AR.slot (k := 1) (x := (sa "#V" 20 : Int) - 1) hZ hap' r0 ht h0 hb hq (by omega) (l1 _ _ hlt) (by rw [f1]; show -1 ≤ (sa "#V" 20 : Int) - 1; omega) sv20.symm
  have r2 := AR.slot (k := 2) (x := (sa "#V" 21 : Int) - 1) hZ hap' r1 ht h0 hb hq (by omega) (l1 _ _ (by simpa using hlt)) (by rw [f2]; show -1 ≤ (sa "#V" 21 : Int) - 1; omega) sv21.symm
  subst hA'
  have X5 := vx_back9L X0 Y0 X₂
  have sz1 : D.2 t 1 < cell.slots.size := (Array.getElem?_eq_some_iff.mp (q4 1 (by omega))).1
  have n12 : D.2 t 2 ≠ D.2 t 1 := hap' 2 1 (by omega) (by omega) (by decide)
  have hsm : (((cell.setSlot (D.2 t 0) (.ref a.toNat)).setSlot (D.2 t 1) (dv (sval sa 20))).setSlot (D.2 t 2) (dv (sval sa 21))).setSlot (D.2 t 1) (dv (sval sa 20)) = ((cell.setSlot (D.2 t 0) (.ref a.toNat)).setSlot (D.2 t 1) (dv (sval sa 20))).setSlot (D.2 t 2) (dv (sval sa 21)) := by
    refine Cell.setSlot_same ?_
    simp [Cell.setSlot, Array.getElem?_setIfInBounds, n12, sz1]
  have hheap : (((T.setVm vm₁).setVm vm₂).setCell a.toNat ((preparedCellV TC.toThrowableT cell a.toNat ⟨dv (sval sa 20), th_isRef _⟩ ⟨dv (sval sa 21), th_isRef _⟩).setSlot TC.fStack.slot (dv (sval sa 20)))).heap = ((T.heap.setIfInBounds a.toNat (cell.setSlot (D.2 t 0) (.ref a.toNat))).setIfInBounds a.toNat ((cell.setSlot (D.2 t 0) (.ref a.toNat)).setSlot (D.2 t 1) (dv (sval sa 20)))).setIfInBounds a.toNat (((cell.setSlot (D.2 t 0) (.ref a.toNat)).setSlot (D.2 t 1) (dv (sval sa 20))).setSlot (D.2 t 2) (dv (sval sa 21))) := by
    have e1 : (preparedCellV TC.toThrowableT cell a.toNat ⟨dv (sval sa 20), th_isRef _⟩ ⟨dv (sval sa 21), th_isRef _⟩).setSlot TC.fStack.slot (dv (sval sa 20)) = ((cell.setSlot (D.2 t 0) (.ref a.toNat)).setSlot (D.2 t 1) (dv (sval sa 20))).setSlot (D.2 t 2) (dv (sval sa 21)) := by
      show (((cell.setSlot TC.fCause.slot (.ref a.toNat)).setSlot TC.fStack.slot (dv (sval sa 20))).setSlot TC.fSupp.slot (dv (sval sa 21))).setSlot TC.fStack.slot (dv (sval sa 20)) = _
      rw [eC, eS, eP]
      exact hsm
    rw [e1]
    have e2 : ∀ (H : Heap) (x y : Cell), (H.setIfInBounds a.toNat x).setIfInBounds a.toNat y = H.setIfInBounds a.toNat y := fun H x y => Array.setIfInBounds_setIfInBounds ..
    rw [e2, e2]
    rfl
  obtain ⟨t9, a1, b1⟩ := kk _ (locs ++ ([] ++ [⟨a.toNat, TC.fCause.slot⟩, ⟨a.toNat, TC.fStack.slot⟩, ⟨a.toNat, TC.fSupp.slot⟩, ⟨a.toNat, TC.fStack.slot⟩])) L r2 (fun q hq => by
    rcases List.mem_append.mp hq with h | h
    · exact hL q h
    · simp only [List.nil_append, List.mem_cons, List.not_mem_nil, or_false] at h
      rcases h with rfl | rfl | rfl | rfl <;> (show b0 ≤ a.toNat; omega)) hA _ hheap X5
  refine ⟨t9, st1 _ (fun acts => ?_), b1⟩
  rw [doInvoke_state]
  exact st2 _ a1
end THR
section THW
variable {p : Program} {l : Launch} {e : Env} {R : Room} {s : State} {m : MethodId} {args : Array Value} {below : List Frame} {meth : Method} {c : Code} {cc : ByteArray} {nL : Nat} {own : String} {ret : Option FieldType} {D : va_G} {sa : String → Nat → Nat} {b0 : Nat} {Z : Heap → Prop} {d G : Nat}
/-- the words hold -/
def thG (w : Cond) : Bool := goodWord w || (decide (w = .laysStatic Bundle.tN "UNASSIGNED_STACK" Bundle.steD) || (decide (w = .laysStatic Bundle.tN "SUPPRESSED_SENTINEL" Bundle.listD) || (kw w && w.onTables)))
theorem th_ok {own' sup X : String} {names : List String} {ic : Nat} (ps : List Nat) (hp : thA own' sup X names ic = ps.filterMap (fun i => lw_tbl[i]?)) (hg : (thA own' sup X names ic).all thG = true) (F : AF p l e R s m args below meth c cc nL own ret D sa b0 Z d G) :
    ∀ w ∈ thA own' sup X names ic, w = .laysStatic Bundle.tN "UNASSIGNED_STACK" Bundle.steD ∨ w = .laysStatic Bundle.tN "SUPPRESSED_SENTINEL" Bundle.listD ∨ (w.before args s = true ∧ vx_ot w = true) := by
  intro w h
  have h1 := List.all_eq_true.mp hg w h
  have hm : w ∈ lw_tbl := by
    rw [hp] at h
    obtain ⟨i, -, hi⟩ := List.mem_filterMap.mp h
    exact List.mem_of_getElem? hi
  rcases (Bool.or_eq_true _ _).mp h1 with y | y
  · exact Or.inr (Or.inr ⟨F.2.2.2.2.1 w (lw_g hm y), by unfold vx_ot; rw [y, Bool.or_true]⟩)
  · rcases (Bool.or_eq_true _ _).mp y with y | y
    · exact Or.inl (of_decide_eq_true y)
    · rcases (Bool.or_eq_true _ _).mp y with y | y
      · exact Or.inr (Or.inl (of_decide_eq_true y))
      · obtain ⟨y1, y2⟩ := (Bool.and_eq_true _ _).mp y
        exact Or.inr (Or.inr ⟨va_Nw.use y2 (F.2.2.2.2.2.2.2.1.2.2.1 w hm y1), by unfold vx_ot; rw [y2]; rfl⟩)
abbrev thP (k : List Nat) : List Nat := [464, 1114, 1123, 1130, 1133, 1135, 1115, 1116, 542, 543, 1117, 1122, 1131, 1226, 1104, 1227, 1106, 1228, 1108, 1118, 1119, 1120, 1121, 1110, 2741, 2742, 2743, 1115, 1099, 2740, 2741, 2742] ++ (k.take 2 ++ [1113, 1112] ++ k.drop 2)
theorem thp_F : thA "java/lang/RuntimeException" "java/lang/Exception" RX54 [] 1 = (thP [5096, 1125, 5097, 5098, 5099, 5101]).filterMap (fun i => lw_tbl[i]?) := by decide +kernel
theorem thp_A : thA "java/lang/RuntimeException" "java/lang/Exception" RJ17 [] 1 = (thP [1101, 1102, 1103, 1105, 1107, 1111]).filterMap (fun i => lw_tbl[i]?) := by decide +kernel
theorem thp_S : thA "java/lang/RuntimeException" "java/lang/Exception" RJ24 [] 1 = (thP [2728, 1127, 2729, 2730, 2731, 2733]).filterMap (fun i => lw_tbl[i]?) := by decide +kernel
theorem thp_I : thA "java/lang/RuntimeException" "java/lang/Exception" RJ20 [] 1 = (thP [2921, 1128, 2922, 2923, 2924, 2926]).filterMap (fun i => lw_tbl[i]?) := by decide +kernel
theorem thg_F : (thA "java/lang/RuntimeException" "java/lang/Exception" RX54 [] 1).all thG = true := by decide +kernel
theorem thg_A : (thA "java/lang/RuntimeException" "java/lang/Exception" RJ17 [] 1).all thG = true := by decide +kernel
theorem thg_S : (thA "java/lang/RuntimeException" "java/lang/Exception" RJ24 [] 1).all thG = true := by decide +kernel
theorem thg_I : (thA "java/lang/RuntimeException" "java/lang/Exception" RJ20 [] 1).all thG = true := by decide +kernel
theorem thf_F : thrF TX54 59 := ⟨rfl, rfl, rfl, rfl, ⟨_, rfl⟩, ⟨_, rfl⟩, ⟨_, rfl⟩, ⟨_, rfl⟩⟩
theorem thf_A : thrF TJ17 6 := ⟨rfl, rfl, rfl, rfl, ⟨_, rfl⟩, ⟨_, rfl⟩, ⟨_, rfl⟩, ⟨_, rfl⟩⟩
theorem thf_S : thrF TJ24 11 := ⟨rfl, rfl, rfl, rfl, ⟨_, rfl⟩, ⟨_, rfl⟩, ⟨_, rfl⟩, ⟨_, rfl⟩⟩
theorem thf_I : thrF TJ20 8 := ⟨rfl, rfl, rfl, rfl, ⟨_, rfl⟩, ⟨_, rfl⟩, ⟨_, rfl⟩, ⟨_, rfl⟩⟩
end THW
/-- the launch takes no stack traces -/
def noTr (ω : AO) : Prop := ω.1.stackTraces = false
