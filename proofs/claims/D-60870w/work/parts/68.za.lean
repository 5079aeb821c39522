/-! calls, by an interface, of a method whose class is not known to be initialized (System$2.getUTF16Char); instanceof of a byte array -/
set_option maxRecDepth 100000
section BARE
variable {p : Program} {l : Launch} {e : Env} {R : Room} {below : List Frame} {s : State} {sargs : Array Value} {y : MethodName} {len V : Nat}
/-- the way back out of a method's walk: nothing is asked of the method's class -/
theorem back_bare {ws : List Cond} {rm : Room} {Pc : Array Value → State → Prop} {Qc : Array Value → State → Outcome → State → Prop} {mc ms : Nat} {free : Addr → Prop} {cc : ByteArray} {maxL : Nat} {ret : Option FieldType}
    (hy : plainFor y = true) (hblind : FrameBlind Pc) (hrc : rm.cells = mc) (hrs : rm.slots = ms) (hframes : rm.frames + 1 ≤ R.frames) (hlocals : V + (maxL + 11) + rm.locals ≤ R.locals)
    (hws : ∀ w ∈ ws, ∀ a' U, s.WarmedH U.vm → w.before a' U = true) (hcode : Cond.code y cc maxL ret ∈ ws)
    (body : ∀ (s' : State) (m' : MethodId) (a : Array Value) (below' : List Frame) (meth' : Method) (c' : Code), c'.code = cc → c'.maxLocals = maxL → s'.vm.findClass y.cls = some m'.cls → (∀ w ∈ ws, w.before a s' = true) → meth'.sig.returnType = ret → meth'.locks = false → meth'.name = y.name → Pc a s' →
      W p l e rm s' m' a below' meth' c' s'.heap [] 0 0 (MQ below' Qc a s' mc ms free) (entryFrame m' a maxL)) :
    Back l R p e below s sargs y len V (PreOf R mc ms Pc) (PostOf Qc mc ms free) := by
  intro m meth c A g ig mk a X hg hsize hdg hW hn hp0
  obtain ⟨U, Ls, c0, s0⟩ := A
  obtain ⟨h4, h5, hp⟩ := hp0
  dsimp only [Pt.U, Pt.locs, Pt.cells, Pt.slots] at h4 h5 hp X hn ⊢
  have hw : ∀ w ∈ ws, w.before a U = true := fun w h => hws w h a U X.warmed
  obtain ⟨methY, cY, hmY, hcY, hbY, hlY, hrY, hkY, -, -⟩ := Cond.code_spec hn (hw _ hcode)
  have h : At U g.method c below := by rw [hg]; exact X.here
  have hfull := X.notFull (g := g) hsize (vars := cY.maxLocals) (by omega) (by rw [hlY]; omega)
  have hdo := doInvoke_enter (g := g) h.top (args := a) [] hmY hcY hkY hfull
  have hroom : (U.calling g mk a).hasRoom e.platform rm = true := X.room_calling (g := g) (R' := rm) hsize hmY hcY hframes (by rw [hlY]; omega) (by rw [hrc]; exact h4) (by rw [hrs]; exact h5)
  have hfr : (U.calling g mk a).frames = .invoking mk a :: .java g :: U.frames.tail := State.frames_calling h.top g mk a
  have hears : (U.calling g mk a).hears mk (.java g :: U.frames.tail) = true := by
    have hcode' : (U.calling g mk a).code? g.method = some c := by
      have := h.code
      rw [State.code?_eq] at this ⊢
      simpa [State.calling, State.pushFrame, State.setFrames] using this
    simp [State.hears, hcode', hdg, Except.toOption]
  have hrun : (U.calling g mk a).status = .running := h.running
  have hable : (U.calling g mk a).curStatus? = some .runnable := by simpa [State.calling] using h.runnable
  have halone : (U.calling g mk a).alone = true := by simpa [State.calling] using h.alone
  have hmY' : (U.calling g mk a).vm.method? mk = some methY := hmY
  have hn' : (U.calling g mk a).methodNamed? y = some mk := hn
  have hw' : ∀ w ∈ ws, w.before a (U.calling g mk a) = true := fun w hh => by rw [State.calling_eq h.top, Cond.before_setFrames]; exact hw w hh
  have hp' : Pc a (U.calling g mk a) := hblind a U g mk hp
  have hT : (U.setTop g).pushFrame (.java (entryFrame mk a maxL)) = (U.calling g mk a).setFrames (.java (entryFrame mk a maxL) :: .java g :: U.frames.tail) := by
    show (U.setTop g).setFrames (.java (entryFrame mk a maxL) :: (U.setTop g).frames) = _
    obtain ⟨g₀, hg0⟩ := Option.isSome_iff_exists.mp h.top
    obtain ⟨r, hr⟩ := State.topJava?_eq_some.mp hg0
    rw [State.frames_setTop' g h.top, State.calling_eq h.top, State.setFrames_setFrames, State.setTop_of_frames _ hr, State.setFrames_setFrames]
  rw [hlY, hT] at hdo
  obtain ⟨s', hs'⟩ : ∃ z, z = U.calling g mk a := ⟨_, rfl⟩
  have hvm : s'.vm = U.vm := by rw [hs']; rfl
  have hfin : ∀ t : State, s'.setFrames t.frames = U.setFrames t.frames := fun t => by rw [hs', State.calling_eq h.top, State.setFrames_setFrames]
  rw [← hs'] at hroom hfr hears hrun hable halone hmY' hn' hw' hp' hdo
  have hcur := State.cur_lt_of_frames hfr
  have hf1 : (s'.setFrames (.java (entryFrame mk a maxL) :: .java g :: U.frames.tail)).frames = .java (entryFrame mk a maxL) :: .java g :: U.frames.tail := State.frames_setFrames _ hcur
  have ht1 := State.topJava?_of_frames hf1
  have hAt : At (s'.setFrames (.java (entryFrame mk a maxL) :: .java g :: U.frames.tail)) mk cY (.java g :: U.frames.tail) :=
    ⟨by rw [ht1]; rfl, ⟨[], by rw [hf1]; rfl⟩, hrun, by simpa using hable, by simpa using halone, by rw [State.code?_eq]; simp [State.setFrames, hmY', hcY], State.plainMethod.of_named (s := s') hy hn' hmY'⟩
  have X' : Stand p l e rm s' mk a (.java g :: U.frames.tail) methY cY (s'.setFrames (.java (entryFrame mk a maxL) :: .java g :: U.frames.tail)) [] 0 0 := by
    obtain ⟨t, ht, -⟩ := State.frames_cons hfr
    exact ⟨X.admits, X.cas, X.clock, hfr, hroom, hears, hmY', hcY, hAt, by rw [hf1]; rfl, State.WarmedH.refl s', by rw [State.stackLimits_setFrames], by rw [State.stackBytes_setFrames], (State.sameButNew.refl s' ht).setFrames (.java (entryFrame mk a maxL) :: .java g :: U.frames.tail) hcur⟩
  obtain ⟨t, hst, o, hrun₂, hend, hq, L, hfe, hLf⟩ := body s' mk a (.java g :: U.frames.tail) methY cY hbY hlY (findClass_of_methodNamed hn') hw' hrY hkY (name_of_methodNamed hn' hmY').1 hp' (s'.setFrames (.java (entryFrame mk a maxL) :: .java g :: U.frames.tail)) rfl X'
  have hst2 : Steps p.tables e below (doInvoke e (U.setTop g) [] mk a).1 t := by
    rw [hdo]
    obtain ⟨n, e1, e2⟩ := hst
    obtain ⟨mid, hmid⟩ := h.above
    refine ⟨n, e1, fun k hk => ?_⟩
    have h2 := e2 k hk
    rw [show (Frame.java g :: U.frames.tail) = (.java g :: mid) ++ below from by rw [hmid]; rfl] at h2
    rw [show (Frame.java g :: U.frames.tail) = (.java g :: mid) ++ below from by rw [hmid]; rfl]
    exact h2.weaken
  obtain ⟨⟨v, rfl⟩, hW₂, e2, q2, q3, q4, q5, q6⟩ := id hfe
  have hWt : U.WarmedH t.vm := by
    have h2 := hW₂
    rw [hs'] at h2
    exact h2
  have e3 : t = ({ U.setFrames t.frames with heap := t.heap, slotsUsed := t.slotsUsed } : State).setVm t.vm := by
    have h2 : t = ({ t with vm := s'.vm } : State).setVm t.vm := rfl
    rw [e2, hfin] at h2
    exact h2
  obtain ⟨c₂, i₂, len₂, hc₂, hd₂, hf₂⟩ := hend
  have hcc : c₂ = c := by
    have h1 : t.code? g.method = U.code? g.method := by rw [State.code?_eq, State.code?_eq, hWt.alike.method?]
    exact Option.some.inj (hc₂.symm.trans (h1.trans h.code))
  subst hcc
  have hlen : len₂ = len := by rw [hdg] at hd₂; cases hd₂; rfl
  subst hlen
  obtain ⟨g₀, hg0⟩ := Option.isSome_iff_exists.mp h.top
  obtain ⟨r, hr⟩ := State.topJava?_eq_some.mp hg0
  have hs₂ : t = (({ U with heap := t.heap, slotsUsed := t.slotsUsed } : State).setVm t.vm).setTop { g with pc := g.pc + len₂, stack := v.toList ++ g.stack } := by
    have hr' : (({ U with heap := t.heap, slotsUsed := t.slotsUsed } : State).setVm t.vm).frames = .java g₀ :: r := hr
    refine e3.trans ?_
    rw [hf₂, State.setTop_of_frames _ hr', hr]
    rfl
  have hsame : U.sameButNew ({ U with heap := t.heap, slotsUsed := t.slotsUsed } : State) L mc ms := by
    have hh : s'.heap = U.heap := by rw [hs']; rfl
    have hu : s'.slotsUsed = U.slotsUsed := by rw [hs']; rfl
    refine ⟨?_, by rw [hh] at q2; exact q2, by rw [hh] at q3; exact q3, by rw [hh, hu] at q4; exact q4, by rw [hh] at q5; exact q5, by rw [hh] at q6; exact q6⟩
    obtain ⟨t0, ht0, -⟩ := State.frames_cons hr
    show ({ U with heap := t.heap, slotsUsed := t.slotsUsed } : State) = { U.setFrames U.frames with heap := t.heap, slotsUsed := t.slotsUsed }
    rw [State.setFrames_self ht0]
  subst hg
  refine ⟨v, ⟨(({ U with heap := t.heap, slotsUsed := t.slotsUsed } : State).setVm t.vm), Ls ++ L, c0 + mc, s0 + ms⟩,
    ⟨X.admits, X.cas, X.clock, X.frames, X.room, X.hears, X.method, X.code, (X.here.setHeapUsed t.heap t.slotsUsed).setVm hWt.alike, X.tail, State.WarmedH.trans X.warmed hWt, X.limits, X.bytes, X.same.trans (hsame.setVm s.vm)⟩,
    ⟨g, mk, t, L, rfl, rfl, by rw [hs'] at hq; exact hq, rfl, hLf, rfl, rfl⟩, ?_⟩
  show Steps p.tables e below _ ((({ U with heap := t.heap, slotsUsed := t.slotsUsed } : State).setVm t.vm).setTop { g with pc := g.pc + len₂, stack := v.toList ++ g.stack })
  rw [← hs₂]
  exact hst2
end BARE
def FLkU (own : String) (idx t : Nat) (x y : MethodName) (cy : ByteArray) (ny : Nat) (ry : Option FieldType) (n : Nat) : Prop :=
  ∃ (C : String) (T : u_T) (N : Nat), aCl[t]? = some (C, T, N) ∧ (0 < t ∧ t < 71) ∧ Cond.methodLink own idx x ∈ lw_all ∧ Cond.selects C x y ∈ lw_all ∧ Cond.instanceMethod y ∈ lw_all ∧ Cond.code y cy ny ry ∈ lw_all ∧
    (Cond.declares x ∈ lw_tbl ∧ Cond.interfaceMethod x.cls x.cls x.name x.desc ∈ lw_tbl ∧ Cond.publicMethod y ∈ lw_tbl ∧ Cond.unhidden C x.name x.desc ∈ lw_tbl ∧ Cond.castable C x.cls ∈ lw_tbl) ∧ (x.cls ≠ "java/lang/invoke/MethodHandle" ∧ x.cls ≠ "java/lang/invoke/VarHandle" ∧ (parseMethodDescriptor x.desc).map (fun d => d.parameters.length) = some n) ∧ ny ≤ 61 ∧ plainFor y = true
theorem ent_len (l : List AV) : (lg_sl (l.map dv)).length = catS l := by
  induction l with
  | nil => rfl
  | cons v r ih =>
    have hc : (dv v).category = cat v := dv_cat v
    have e : lg_sl ((v :: r).map dv) = (if (dv v).category = 2 then [.val (dv v), .second] else [.val (dv v)]) ++ lg_sl (r.map dv) := by simp [lg_sl]
    rw [e, List.length_append, ih]
    show _ = cat v + catS r
    rw [← hc]
    rcases lv_cat (dv v) with h | h <;> rw [h] <;> rfl
section UROWS
variable {ω : AO} {p : Program} {e : Env} {R : Room} {s : State} {m : MethodId} {args : Array Value} {below : List Frame} {meth : Method} {c : Code} {cc : ByteArray} {nL : Nat} {own : String} {ret : Option FieldType} {d G : Nat} {F : AFo ω p e R s m args below meth c cc nL own ret d G} {P : Option AV → AS → Prop}
variable {pc g idx t n ny d' G' : Nat} {vs st : List AV} {S : AS} {y z : MethodName} {cy : ByteArray} {ry : Option FieldType} {P' : Option AV → AS → Prop} {Q : Int → AS → Prop} {a x : Int}
theorem aw_callFU {count : Nat} {As rest vs' : List AV} (hd : decode cc pc = .ok (.invokeinterface idx count, 5)) (lk : FLkU own idx t z y cy ny ry n) (ht : tg S a = t)
    (hk : ((((2, a) :: As : List AV)).all fun v => decide (v.1 < 9)) = true) (hnl : catS ((2, a) :: As) ≤ ny) (hvs : ent ((2, a) :: As) ++ List.replicate (ny - catS ((2, a) :: As)) vN = vs')
    (body : SJ ω y cy ny ry d' G' (fun S0 => eC S0 Q) 0 vs' [] 0 S) (hn : As.length = n) (hst : st = As.reverse ++ (2, a) :: rest) (hcat : catS rest ≤ 8) (hdd : d' + 1 ≤ d) (hg : g + G' ≤ G)
    (kk : ∀ (x : Int) (S' : AS), (0 ≤ x ∧ x < 65536) → Ext S S' ∧ Q x S' → AW F P (pc + 5) vs ((0, x) :: rest) (g + G') S') : AW F P pc vs st g S := by
  intro H locs L hR hL hA
  obtain ⟨C, T, N, l1, l2, l3, l4, l5, l7, ⟨w1, w2, w3, w4, w5⟩, l9, l10, l11⟩ := lk
  have hts := F.2.2.2.2.1
  obtain ⟨ha0, hpre⟩ := ob_pre (As := As) F hR ht l1 l2
  have hrv : dv (2, a) = .ref a.toNat := rV_of ha0
  obtain ⟨⟨-, hfc, kC, hkC, -⟩, -⟩ := F.2.2.2.2.2.2.2.1.1 t _ l2.1 l1
  have hFw := F.2.2.2.2.2.2.2.1.2.2.2.1 C z y l9.1 l9.2.1 w1 w2 w3 w4 w5
  have hro := room_ok (G' := G') F hdd l10
  have hZ := F.2.2.2.2.2.2.2.2.1
  have hk' : ∀ v ∈ ((2, a) :: As : List AV), v.1 < 9 := fun v hv => of_decide_eq_true (List.all_eq_true.mp hk v hv)
  have hK : Back ω.1 R p e below s args y 5 8 (PreOf R G' (5 * G') (fun a_ U => a_ = (((2, a) :: As).map dv).toArray ∧ AR ω.2.1 ω.2.2.2.1 ω.2.2.2.2 S U.heap ∧ AK ω.2.1 ω.2.2.1 U)) (PostOf (AQ ω.2.1 ω.2.2.2.1 ω.2.2.2.2 (eC S Q)) G' (5 * G') (fun q => ω.2.2.2.1 ≤ q)) := by
    refine back_bare (ws := ws_ y cy ny ry) (rm := rm_ d' G') (cc := cy) (maxL := ny) (ret := ry) l11 pre_blind rfl rfl hro.1 hro.2 (pay_in hts (lw_meth l7)) List.mem_cons_self ?_
    intro s' m' a' below' meth' c' b1 b2 b3 b4 b5 b6 b7 hP
    obtain ⟨rfl, hR', hK'⟩ := hP
    have hts' : ∀ w ∈ lw_all, w.before _ s' = true := fun w h => b4 w (List.mem_cons_of_mem _ h)
    have F' : AFo ω p e (rm_ d' G') s' m' (((2, a) :: As).map dv).toArray below' meth' c' cy ny y.cls ry d' G' := ⟨F.1, b1, b2, b3, hts', b5, b6, hK', hZ, rfl⟩
    have hl := lv_entry (((2, a) :: As).map dv) (n := ny) (by rw [ent_len]; exact hnl)
    rw [lg_entry_eq]
    refine body _ _ _ _ _ _ _ _ _ F' b7 S Ext.rf s'.heap [] _ hR' (fun q h => by cases h) ?_
    unfold AL
    rw [← hvs, vl_ent _ 0 _ hk']
    exact hl
  refine aw_run5 (F := F) (As := (Value.ref a.toNat :: As.map dv).toArray) (rest := rest) (P' := eC S Q) (G' := G') ?_ hL hA (fun r S' h => by obtain ⟨x, rfl, h1, h2⟩ := h; exact kk x S' h1 h2)
  intro T0 hT X
  obtain ⟨-, ⟨cellB, hcB, hoB, hclB⟩, hPc⟩ := hpre
  have heqC := Option.some.inj (hfc.symm.trans hclB)
  rw [heqC] at hkC
  have hroom : g + G' ≤ R.cells ∧ 5 * g + 5 * G' ≤ R.slots := by
    rw [F.2.2.2.2.2.2.2.2.2]
    exact ⟨hg, by show 5 * g + 5 * G' ≤ 5 * G; omega⟩
  obtain ⟨v, vm₁, ⟨U', l2', c2, s2⟩, hW₁, X', ⟨g', mk, t', L', e1, e2, hq, h1, hL', h2, h3⟩, stp⟩ := va_callIF X F.1 (own := own) (C := C) (index := idx) (x := z) (y := y) (bytes := cy) (maxL := ny) (ret := ry) F.2.2.2.1 (hts _ l3) (va_any rfl hFw.1) (va_any rfl hFw.2.1) (hts _ l4) (hts _ l5) (va_any rfl hFw.2.2.1) (va_any rfl hFw.2.2.2.1) (va_any rfl hFw.2.2.2.2) (hts _ l7) ⟨l9.1, l9.2.1⟩ hK
    (by rw [hT]; exact hcB) hoB hclB hkC (g := F0 m pc L (st.map dv)) rfl (hA.1.trans F.2.2.1.symm) (argsL := As.map dv) (rest := rest.map dv) (fun sig h => by have h2 := l9.2.2; rw [h] at h2; rw [List.length_map, hn]; exact (Option.some.inj h2).symm) (by show st.map dv = _; rw [hst]; simp [hrv]) (lv_room (by rw [catS_sum]; exact hcat)) (by rw [F.2.1]; exact hd)
    (fun vm₁ hW₁ => ⟨hroom.1, hroom.2, hPc (T0.setVm vm₁) hT hW₁⟩)
  dsimp only [Pt.U, Pt.locs, Pt.cells, Pt.slots] at X' e1 e2 h1 h2 h3 stp
  subst h1; subst h2; subst h3
  exact ⟨v, (T0.setVm vm₁).calling g' mk (Value.ref a.toNat :: As.map dv).toArray, t', U', L', hT, X', hL', e1, e2, hq, stp⟩
theorem aw_instA {nm : String} {ty : FieldType} (j : Nat) (hd : decode cc pc = .ok (.instanceof idx, 3)) (ht : tg S x = 101 + j) (hj : aEl[j]? = some ty) (hj9 : j < 9) (hcl : Cond.classLink own idx nm ∈ lw_all) (hnm : "[" ++ ty.toString = nm) (hty : va_RA s (ω.2.1.1 (101 + j)) ty → s.vm.findClass nm = some (ω.2.1.1 (101 + j))) (kk : AW F P (pc + 3) vs ((0, 1) :: st) g S) : AW F P pc vs ((2, x) :: st) g S := by
  intro H locs L hR hL hA
  obtain ⟨h0, -, hc⟩ := ar_at hR ht
  have k2 := kk H locs L hR hL hA
  have e : dv (2, x) = .ref x.toNat := rV_of h0
  rw [List.map_cons] at k2
  rw [List.map_cons, e]
  intro T hT X
  obtain ⟨vm', X', st'⟩ := X.instanceofYes F.1 F.2.2.2.1 (F.2.2.2.2.1 _ hcl) (by rw [hT]; exact hc) rfl (hty ((F.2.2.2.2.2.2.2.1.2.1 j ty hj).2 hj9)) (va_asg _ _) (g := F0 m pc L (.ref x.toNat :: st.map dv)) rfl rfl (by rw [F.2.1]; exact hd)
  obtain ⟨t, a1, b1⟩ := k2 (T.setVm vm') hT X'
  exact ⟨t, st' t a1, b1⟩
end UROWS
