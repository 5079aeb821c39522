/-! the twin: atoms, nodes, values, what waits -/
set_option maxRecDepth 100000
/-- an atom -/
def ATM1 (τ : TT) (l : List Int) (i : Int) (v : Ato) : Prop := ∃ a b, (0 ≤ a ∧ a ≤ b ∧ b ≤ len l) ∧ sub l a b = v.2.1 ∧ τ.2 180 i = v.1 ∧ τ.2 187 i = b2i v.2.2 ∧ τ.2 181 i = a ∧ τ.2 182 i = b - a ∧ τ.2 183 i = (if mayF v.1 = true then stQ v.1 v.2.1 v.2.2 else -1) ∧ τ.2 184 i = 1 ∧ τ.2 185 i = loQ v ∧ τ.2 186 i = hiQ v
def ATS (τ : TT) (l : List Int) (as : List Ato) : Prop := τ.1 276 = lnW as ∧ ∀ (n : Nat) v, as[n]? = some v → ATM1 τ l n v
/-- the sign of an operator in a tree -/
def sgf (o : Int) : Int := if o = 1 then -4 else if o = 2 then -5 else -3
/-- a node -/
def ND1 (τ : TT) (as : List Ato) (D : List Den) (n : Int) (d : Den) : Prop := wfD d ∧
  ((τ.2 188 n = 7 ∧ ∃ a, 0 ≤ τ.2 189 n ∧ as[(τ.2 189 n).toNat]? = some a ∧ d = dLf a) ∨
   (τ.2 188 n = 4 ∧ ∃ b, 0 ≤ τ.2 189 n ∧ τ.2 189 n < n ∧ D[(τ.2 189 n).toNat]? = some b ∧ d = dNo b) ∨
   (∃ b c, (τ.2 188 n = 1 ∨ τ.2 188 n = 2 ∨ τ.2 188 n = 3) ∧ (0 ≤ τ.2 189 n ∧ τ.2 189 n < n) ∧ D[(τ.2 189 n).toNat]? = some b ∧ (0 ≤ τ.2 190 n ∧ τ.2 190 n < n) ∧ D[(τ.2 190 n).toNat]? = some c ∧ d = cmb (sgf (τ.2 188 n)) b c))
def NDS (τ : TT) (as : List Ato) (D : List Den) : Prop := τ.1 286 = lnW D ∧ ∀ (n : Nat) d, D[n]? = some d → ND1 τ as D n d
/-- values, the newest first -/
def VLQ (τ : TT) (D : List Den) (vs : List Den) : Prop := τ.1 291 = lnW vs ∧ ∀ (n : Nat) d, vs.reverse[n]? = some d → 0 ≤ τ.2 191 n ∧ D[(τ.2 191 n).toNat]? = some d
/-- what waits, the newest first -/
def WTQ (τ : TT) (ops : List Int) : Prop := τ.1 292 = lnW ops ∧ ∀ (n : Nat) o, ops.reverse[n]? = some o → τ.2 192 n = o
/-- what is reduced by an operator -/
def rd1 (o : Int) : List Den → List Den
  | [] => []
  | v :: r => if o = 4 then dNo v :: r else match r with
    | [] => []
    | u :: q => cmb (sgf o) u v :: q
section QTR
variable {τ τ' : TT} {l : List Int} {as : List Ato} {D vs : List Den} {ops : List Int} {d u v : Den} {o n : Int}
theorem get_app1 {α : Type} {L M : List α} {n : Nat} {x : α} (h : L[n]? = some x) : (L ++ M)[n]? = some x := by
  have hn : n < L.length := by
    rcases Nat.lt_or_ge n L.length with c | c
    · exact c
    · rw [List.getElem?_eq_none c] at h; cases h
  rw [List.getElem?_append_left hn]; exact h
theorem get_last {α : Type} {L : List α} {x : α} : (L ++ [x])[L.length]? = some x := by rw [List.getElem?_append_right (Nat.le_refl _), Nat.sub_self]; rfl
theorem get_cases {α : Type} {L : List α} {x y : α} {n : Nat} (h : (L ++ [x])[n]? = some y) : (L[n]? = some y ∧ n < L.length) ∨ (n = L.length ∧ y = x) := by
  rcases Nat.lt_trichotomy n L.length with c | c | c
  · rw [List.getElem?_append_left c] at h; exact Or.inl ⟨h, c⟩
  · rw [c, get_last] at h; exact Or.inr ⟨c, (Option.some.inj h).symm⟩
  · rw [List.getElem?_eq_none (by rw [List.length_append, List.length_singleton]; omega)] at h; cases h
theorem ND1.mo {as' : List Ato} {D' : List Den} (h : ND1 τ as D n d) (h1 : τ'.2 188 n = τ.2 188 n) (h2 : τ'.2 189 n = τ.2 189 n) (h3 : τ'.2 190 n = τ.2 190 n) : ND1 τ' (as ++ as') (D ++ D') n d := by
  unfold ND1 at *
  rw [h1, h2, h3]
  refine ⟨h.1, ?_⟩
  rcases h.2 with ⟨a1, a, a2, a3, a4⟩ | ⟨a1, b, a2, a3, a4, a5⟩ | ⟨b, c, a1, a2, a3, a4, a5, a6⟩
  · exact Or.inl ⟨a1, a, a2, get_app1 a3, a4⟩
  · exact Or.inr (Or.inl ⟨a1, b, a2, a3, get_app1 a4, a5⟩)
  · exact Or.inr (Or.inr ⟨b, c, a1, a2, get_app1 a3, a4, get_app1 a5, a6⟩)
theorem NDS.fr {sc ar : List Int} (h : NDS τ as D) (hF : Fr τ τ' sc ar) (h1 : sc.contains 286 = false := by rfl) (h2 : ([188, 189, 190].all fun k => !ar.contains k) = true := by rfl) : NDS τ' as D := by
  have A : ∀ k, k ∈ ([188, 189, 190] : List Int) → τ'.2 k = τ.2 k := fun k hk => hF.a k (by have := List.all_eq_true.mp h2 k hk; simpa using this)
  unfold NDS ND1 at *
  rw [hF.s 286 h1, A 188 (by decide), A 189 (by decide), A 190 (by decide)]
  exact h
theorem NDS.asx {as' : List Ato} (h : NDS τ as D) : NDS τ (as ++ as') D := ⟨h.1, fun n d hn => by
  have z := (h.2 n d hn).mo (as' := as') (D' := []) rfl rfl rfl
  rw [List.append_nil] at z
  exact z⟩
theorem VLQ.fr {sc ar : List Int} (h : VLQ τ D vs) (hF : Fr τ τ' sc ar) (h1 : sc.contains 291 = false := by rfl) (h2 : ar.contains 191 = false := by rfl) : VLQ τ' D vs := by
  unfold VLQ at *
  rw [hF.s 291 h1, hF.a 191 h2]; exact h
theorem VLQ.mo {D' : List Den} (h : VLQ τ D vs) : VLQ τ (D ++ D') vs := ⟨h.1, fun n d hn => ⟨(h.2 n d hn).1, get_app1 (h.2 n d hn).2⟩⟩
theorem WTQ.fr {sc ar : List Int} (h : WTQ τ ops) (hF : Fr τ τ' sc ar) (h1 : sc.contains 292 = false := by rfl) (h2 : ar.contains 192 = false := by rfl) : WTQ τ' ops := by
  unfold WTQ at *
  rw [hF.s 292 h1, hF.a 192 h2]; exact h
theorem ATS.fr {sc ar : List Int} (h : ATS τ l as) (hF : Fr τ τ' sc ar) (h1 : sc.contains 276 = false := by rfl) (h2 : ([180, 181, 182, 183, 184, 185, 186, 187].all fun k => !ar.contains k) = true := by rfl) : ATS τ' l as := by
  have A : ∀ k, k ∈ ([180, 181, 182, 183, 184, 185, 186, 187] : List Int) → τ'.2 k = τ.2 k := fun k hk => hF.a k (by have := List.all_eq_true.mp h2 k hk; simpa using this)
  unfold ATS ATM1 at *
  rw [hF.s 276 h1, A 180 (by decide), A 181 (by decide), A 182 (by decide), A 183 (by decide), A 184 (by decide), A 185 (by decide), A 186 (by decide), A 187 (by decide)]
  exact h
theorem VLQ.top (h : VLQ τ D (v :: vs)) : 0 ≤ τ.2 191 (τ.1 291 - 1) ∧ D[(τ.2 191 (τ.1 291 - 1)).toNat]? = some v ∧ τ.1 291 = lnW vs + 1 := by
  have e1 : τ.1 291 = lnW vs + 1 := by rw [h.1]; unfold lnW; rw [List.length_cons]; omega
  have z := h.2 vs.length v (by rw [List.reverse_cons, ← List.length_reverse]; exact get_last)
  rw [show ((vs.length : Nat) : Int) = τ.1 291 - 1 by rw [e1]; unfold lnW; omega] at z
  exact ⟨z.1, z.2, e1⟩
/-- a node is made -/
theorem t_qNode {Q : Int → TT → Prop} {kd a b : Int} (h : NDS τ as D) (hD : lnW D < 700) (hk : -2147483648 ≤ kd ∧ kd < 2147483648) (ha : -2147483648 ≤ a ∧ a < 2147483648) (hb : -2147483648 ≤ b ∧ b < 2147483648) (hd : wfD d)
    (hx : (kd = 7 ∧ ∃ x, 0 ≤ a ∧ as[a.toNat]? = some x ∧ d = dLf x) ∨ (kd = 4 ∧ ∃ x, 0 ≤ a ∧ D[a.toNat]? = some x ∧ d = dNo x) ∨ (∃ x y, (kd = 1 ∨ kd = 2 ∨ kd = 3) ∧ 0 ≤ a ∧ D[a.toNat]? = some x ∧ 0 ≤ b ∧ D[b.toNat]? = some y ∧ d = cmb (sgf kd) x y))
    (hQ : ∀ τ', Fr τ τ' [286] [188, 189, 190] → NDS τ' as (D ++ [d]) → Q (lnW D) τ') : w_qNode kd a b τ Q := by
  have l0 := lnW_nn (l := D)
  have lt : ∀ {i : Int} {x : Den}, 0 ≤ i → D[i.toNat]? = some x → i < lnW D := fun {i x} i0 hi => by
    have hn : i.toNat < D.length := by
      rcases Nat.lt_or_ge i.toNat D.length with c | c
      · exact c
      · rw [List.getElem?_eq_none c] at hi; cases hi
    unfold lnW; omega
  refine s_qNode ?_
  rw [h.1]
  refine fun r5 => ⟨by omega, hk, ha, hb, by omega, ?_⟩
  rw [show lnW D + 1 - 1 = lnW D by omega]
  refine hQ _ ((((Fr.rf.pa _ _ _).pa _ _ _).pa _ _ _).ps _ _) ⟨?_, fun n e hn => ?_⟩
  · show lnW D + 1 = _
    unfold lnW; rw [List.length_append, List.length_singleton]; omega
  · rcases get_cases hn with ⟨c1, c2⟩ | ⟨c1, c2⟩
    · have hne : (n : Int) ≠ lnW D := by unfold lnW; omega
      have z := (h.2 n e c1).mo (τ' := (((τ.a 188 (lnW D) kd).a 189 (lnW D) a).a 190 (lnW D) b).s 286 (lnW D + 1)) (as' := []) (D' := [d]) (up_ne _ hne) (up_ne _ hne) (up_ne _ hne)
      rw [List.append_nil] at z
      exact z
    · have hen : (n : Int) = lnW D := by rw [c1]; rfl
      rw [c2, hen]
      have k1 : ((((τ.a 188 (lnW D) kd).a 189 (lnW D) a).a 190 (lnW D) b).s 286 (lnW D + 1)).2 188 (lnW D) = kd := up_at _ _ _
      have k2 : ((((τ.a 188 (lnW D) kd).a 189 (lnW D) a).a 190 (lnW D) b).s 286 (lnW D + 1)).2 189 (lnW D) = a := up_at _ _ _
      have k3 : ((((τ.a 188 (lnW D) kd).a 189 (lnW D) a).a 190 (lnW D) b).s 286 (lnW D + 1)).2 190 (lnW D) = b := up_at _ _ _
      unfold ND1
      rw [k1, k2, k3]
      refine ⟨hd, ?_⟩
      rcases hx with ⟨x1, x, x2, x3, x4⟩ | ⟨x1, x, x2, x3, x4⟩ | ⟨x, y, x1, x2, x3, x4, x5, x6⟩
      · exact Or.inl ⟨x1, x, x2, x3, x4⟩
      · exact Or.inr (Or.inl ⟨x1, x, x2, lt x2 x3, get_app1 x3, x4⟩)
      · exact Or.inr (Or.inr ⟨x, y, x1, ⟨x2, lt x2 x3⟩, get_app1 x3, ⟨x4, lt x4 x5⟩, get_app1 x5, x6⟩)
theorem t_qPush {Q : TT → Prop} (h : VLQ τ D vs) (hv : lnW vs < 700) (hn : 0 ≤ n ∧ n < 2147483648) (hd : D[n.toNat]? = some d) (hQ : ∀ τ', Fr τ τ' [291] [191] → VLQ τ' D (d :: vs) → Q τ') : w_qPush n τ Q := by
  have l0 := lnW_nn (l := vs)
  refine s_qPush ?_
  rw [h.1]
  refine fun r5 => ⟨by omega, by omega, by omega, hQ _ ((Fr.rf.pa _ _ _).ps _ _) ⟨?_, fun i e hi => ?_⟩⟩
  · show lnW vs + 1 = _
    unfold lnW; rw [List.length_cons]; omega
  · show 0 ≤ up (τ.2 191) (lnW vs) n i ∧ D[(up (τ.2 191) (lnW vs) n i).toNat]? = some e
    rw [List.reverse_cons] at hi
    rcases get_cases hi with ⟨c1, c2⟩ | ⟨c1, c2⟩
    · rw [List.length_reverse] at c2
      rw [up_ne _ (by unfold lnW; omega)]
      exact h.2 i e c1
    · rw [List.length_reverse] at c1
      rw [show (i : Int) = lnW vs by rw [c1]; rfl, up_at, c2]
      exact ⟨hn.1, hd⟩
theorem t_qHold {Q : TT → Prop} (h : WTQ τ ops) (hv : lnW ops < 700) (hn : -2147483648 ≤ o ∧ o < 2147483648) (hQ : ∀ τ', Fr τ τ' [292] [192] → WTQ τ' (o :: ops) → Q τ') : w_qHold o τ Q := by
  have l0 := lnW_nn (l := ops)
  refine s_qHold ?_
  rw [h.1]
  refine fun r5 => ⟨by omega, by omega, by omega, hQ _ ((Fr.rf.pa _ _ _).ps _ _) ⟨?_, fun i e hi => ?_⟩⟩
  · show lnW ops + 1 = _
    unfold lnW; rw [List.length_cons]; omega
  · show up (τ.2 192) (lnW ops) o i = e
    rw [List.reverse_cons] at hi
    rcases get_cases hi with ⟨c1, c2⟩ | ⟨c1, c2⟩
    · rw [List.length_reverse] at c2
      rw [up_ne _ (by unfold lnW; omega)]
      exact h.2 i e c1
    · rw [List.length_reverse] at c1
      rw [show (i : Int) = lnW ops by rw [c1]; rfl, up_at, c2]
theorem WTQ.top (h : WTQ τ (o :: ops)) : τ.1 292 = lnW ops + 1 ∧ τ.2 192 (τ.1 292 - 1) = o := by
  have e1 : τ.1 292 = lnW ops + 1 := by rw [h.1]; unfold lnW; rw [List.length_cons]; omega
  have z := h.2 ops.length o (by rw [List.reverse_cons, ← List.length_reverse]; exact get_last)
  rw [show ((ops.length : Nat) : Int) = τ.1 292 - 1 by rw [e1]; unfold lnW; omega] at z
  exact ⟨e1, z⟩
theorem WTQ.pop {x : Int} (h : WTQ τ (o :: ops)) (hx : x = lnW ops) : WTQ (τ.s 292 x) ops := ⟨hx, fun n e hn => h.2 n e (by rw [List.reverse_cons]; exact get_app1 hn)⟩
/-- the newest that waits is done -/
theorem t_qReduce {Q : TT → Prop} (h : NDS τ as D) (hv : VLQ τ D vs) (hw : WTQ τ (o :: ops)) (hD : lnW D < 700) (hb : lnW vs ≤ 700 ∧ lnW ops < 700) (hwf : ∀ d, d ∈ vs → wfD d)
    (ho : (o = 4 ∧ ∃ v r, vs = v :: r) ∨ ((o = 1 ∨ o = 2 ∨ o = 3) ∧ ∃ v u r, vs = v :: u :: r))
    (hQ : ∀ τ' d, Fr τ τ' [286, 291, 292] [188, 189, 190, 191] → wfD d → NDS τ' as (D ++ [d]) → VLQ τ' (D ++ [d]) (rd1 o vs) → WTQ τ' ops → Q τ') : w_qReduce τ Q := by
  obtain ⟨w1, w2⟩ := hw.top
  have l0 := lnW_nn (l := ops)
  have lD := lnW_nn (l := D)
  refine s_qReduce ?_
  rw [w2]
  have rng : ∀ {i : Int} {x : Den}, 0 ≤ i → D[i.toNat]? = some x → 0 ≤ i ∧ i < 700 := fun {i x} i0 hi => by
    have hn : i.toNat < D.length := by
      rcases Nat.lt_or_ge i.toNat D.length with c | c
      · exact c
      · rw [List.getElem?_eq_none c] at hi; cases hi
    unfold lnW at hD; omega
  rcases ho with ⟨h4, v, r, hvs⟩ | ⟨h4, v, u, r, hvs⟩
  · rw [hvs] at hv hb hwf
    obtain ⟨t1, t2, t3⟩ := hv.top
    have lr := lnW_nn (l := r)
    have lv : lnW (v :: r) = lnW r + 1 := by unfold lnW; rw [List.length_cons]; omega
    have t4 := rng t1 t2
    refine fun r2 => ⟨by omega, by omega, fun r18 r25 => ⟨by omega, fun r30 => ⟨fun c34 => absurd h4 c34, fun c34 => ?_⟩⟩⟩
    have wv := hwf v (List.mem_cons_self ..)
    refine t_qNode (τ := τ.s 292 (τ.1 292 - 1)) (d := dNo v) (h.fr (Fr.rf.ps _ _ : Fr τ _ [292] [])) hD (by decide) (by omega) (by decide) wv.no (Or.inr (Or.inl ⟨rfl, v, t1, t2, rfl⟩)) (fun τ1 hF1 hN1 r51 => ?_)
    have hv1 : VLQ τ1 D (v :: r) := (hv.fr (Fr.rf.ps 292 (τ.1 292 - 1) : Fr τ _ [292] [])).fr hF1
    have F1 : Fr τ τ1 [286, 291, 292] [188, 189, 190, 191] := (Fr.rf.ps 292 (τ.1 292 - 1)).tr hF1
    have hw1 : WTQ τ1 ops := (hw.pop (x := τ.1 292 - 1) (by omega)).fr hF1
    refine hQ _ (dNo v) (F1.pa _ _ _) wv.no (hN1.fr (Fr.rf.pa _ _ _ : Fr τ1 _ [] [191])) ?_ (hw1.fr (Fr.rf.pa _ _ _ : Fr τ1 _ [] [191]))
    rw [hvs, h4]
    refine ⟨?_, fun n e hn => ?_⟩
    · show τ1.1 291 = _
      rw [hv1.1]; unfold lnW; rfl
    · show 0 ≤ up (τ1.2 191) (τ.1 291 - 1) (lnW D) n ∧ (D ++ [dNo v])[(up (τ1.2 191) (τ.1 291 - 1) (lnW D) n).toNat]? = some e
      have hn : (r.reverse ++ [dNo v])[n]? = some e := by rw [← List.reverse_cons]; exact hn
      rcases get_cases hn with ⟨c1, c2⟩ | ⟨c1, c2⟩
      · rw [List.length_reverse] at c2
        rw [up_ne _ (by unfold lnW at t3; omega)]
        have z := hv1.2 n e (by rw [List.reverse_cons]; exact get_app1 c1)
        exact ⟨z.1, get_app1 z.2⟩
      · rw [List.length_reverse] at c1
        rw [show (n : Int) = τ.1 291 - 1 by rw [t3, c1]; unfold lnW; omega, up_at, c2]
        exact ⟨lD, by rw [show (lnW D).toNat = D.length by unfold lnW; omega]; exact get_last⟩
  · rw [hvs] at hv hb hwf
    obtain ⟨t1, t2, t3⟩ := hv.top
    have lr := lnW_nn (l := r)
    have lv : lnW (v :: u :: r) = lnW r + 2 := by unfold lnW; rw [List.length_cons, List.length_cons]; omega
    have lv1 : lnW (u :: r) = lnW r + 1 := by unfold lnW; rw [List.length_cons]; omega
    have t4 := rng t1 t2
    have z2 := hv.2 r.length u (by rw [List.reverse_cons, List.reverse_cons]; exact get_app1 (by rw [← List.length_reverse]; exact get_last))
    rw [show ((r.length : Nat) : Int) = τ.1 291 - 1 - 1 by rw [t3, lv1]; unfold lnW; omega] at z2
    have t5 := rng z2.1 z2.2
    have o4 : ¬ o = 4 := by omega
    refine fun r2 => ⟨by omega, by omega, fun r18 r25 => ⟨by omega, fun r30 => ⟨fun c34 => ⟨by omega, by omega, fun r90 => ?_⟩, fun c34 => absurd c34 o4⟩⟩⟩
    have wv := hwf v (List.mem_cons_self ..)
    have wu := hwf u (List.mem_cons_of_mem _ (List.mem_cons_self ..))
    have hsg : sgf o = -3 ∨ sgf o = -4 ∨ sgf o = -5 := by unfold sgf; split; omega; split; omega; omega
    have wd := wu.cmb wv hsg
    refine t_qNode (τ := (τ.s 292 (τ.1 292 - 1)).s 291 (τ.1 291 - 1)) (d := cmb (sgf o) u v) (h.fr ((Fr.rf.ps _ _).ps _ _ : Fr τ _ [292, 291] [])) hD (by omega) (by omega) (by omega) wd (Or.inr (Or.inr ⟨u, v, h4, z2.1, z2.2, t1, t2, rfl⟩)) (fun τ1 hF1 hN1 r92 => ?_)
    have F1 : Fr τ τ1 [286, 291, 292] [188, 189, 190, 191] := ((Fr.rf.ps 292 (τ.1 292 - 1)).ps 291 (τ.1 291 - 1)).tr hF1
    have hw1 : WTQ τ1 ops := ((hw.pop (x := τ.1 292 - 1) (by omega)).fr (Fr.rf.ps 291 (τ.1 291 - 1) : Fr (τ.s 292 (τ.1 292 - 1)) _ [291] [])).fr hF1
    refine hQ _ _ (F1.pa _ _ _) wd (hN1.fr (Fr.rf.pa _ _ _ : Fr τ1 _ [] [191])) ?_ (hw1.fr (Fr.rf.pa _ _ _ : Fr τ1 _ [] [191]))
    have eR : rd1 o (v :: u :: r) = cmb (sgf o) u v :: r := if_neg o4
    rw [hvs, eR]
    refine ⟨?_, fun n e hn => ?_⟩
    · show τ1.1 291 = _
      rw [hF1.s 291]
      show τ.1 291 - 1 = _
      rw [t3, lv1]
      unfold lnW; rw [List.length_cons]; omega
    · show 0 ≤ up (τ1.2 191) (τ.1 291 - 1 - 1) (lnW D) n ∧ (D ++ [cmb (sgf o) u v])[(up (τ1.2 191) (τ.1 291 - 1 - 1) (lnW D) n).toNat]? = some e
      rw [List.reverse_cons] at hn
      rcases get_cases hn with ⟨c1, c2⟩ | ⟨c1, c2⟩
      · rw [List.length_reverse] at c2
        rw [up_ne _ (by rw [t3, lv1]; unfold lnW; omega), hF1.a 191]
        have z := hv.2 n e (by rw [List.reverse_cons, List.reverse_cons]; exact get_app1 (get_app1 c1))
        exact ⟨z.1, get_app1 z.2⟩
      · rw [List.length_reverse] at c1
        rw [show (n : Int) = τ.1 291 - 1 - 1 by rw [t3, lv1, c1]; unfold lnW; omega, up_at, c2]
        exact ⟨lD, by rw [show (lnW D).toNat = D.length by unfold lnW; omega]; exact get_last⟩
end QTR
