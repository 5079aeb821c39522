/-! the twin: the next word of a query -/
set_option maxRecDepth 100000
section QNX
variable {τ τ' : TT} {l w : List Int} {k e c n : Int}
theorem t_qTakePhrase {Q : Int → TT → Prop} (h : QTX τ l) (hk : 0 ≤ k ∧ k < len l)
    (hQ1 : ∀ τ', Fr τ τ' [264, 273, 274, 275] [] → k + 2 ≤ idx l 34 (k + 1) → τ'.1 275 = 1 → τ'.1 273 = k + 1 → τ'.1 274 = idx l 34 (k + 1) → τ'.1 264 = idx l 34 (k + 1) + 1 → Q 1 τ')
    (hQ0 : ∀ τ', Fr τ τ' [264, 273, 274, 275] [] → idx l 34 (k + 1) < k + 2 → Q 0 τ') : w_qTakePhrase k τ Q := by
  have hn := h.ln
  have h2 := h.2.2
  have hi := idx_in (l := l) (x := 34) (i := k + 1) (by omega) (len_nn l)
  have S29 : ∀ e, k + 1 ≤ e → e ≤ len l → (∀ i, k + 1 ≤ i → i < e → gt l i ≠ 34) → (e = len l ∨ gt l e = 34) → W_qTakePhrase_29 k e τ Q := fun e e0 e1 he hd => by
    have F : Fr τ ((((τ.s 275 1).s 273 (k + 1)).s 274 e).s 264 (e + 1)) [264, 273, 274, 275] [] := (((Fr.rf.ps _ _).ps _ _).ps _ _).ps _ _
    refine s_qTakePhrase_29 ⟨by omega, by omega, by omega, t_qSee (h.fr rfl rfl) ⟨by omega, by omega⟩ (fun r55 => ⟨fun c60 => hQ0 _ F ?_, fun c60 => ⟨fun c67 => hQ0 _ F ?_, fun c67 => ?_⟩⟩)⟩
    · have hel : e = len l := hd.resolve_right (fun z => c60 (by
        rcases Int.lt_or_eq_of_le e1 with y | y
        · rw [show atI l e = gt l e from if_pos ⟨by omega, y⟩]; exact z
        · rw [y] at z
          exfalso
          have : gt l (len l) = 0 := by
            unfold gt
            rw [List.getD_eq_getElem?_getD, List.getElem?_eq_none (by unfold len; omega)]
            rfl
          omega))
      rw [idx_n (by omega) (fun i i0 i1 => he i i0 (by omega))]
      omega
    · have hel : e < len l := Classical.byContradiction fun z => by rw [atI_no (by omega)] at c60; exact absurd c60 (by decide)
      rw [show atI l e = gt l e from if_pos ⟨by omega, hel⟩] at c60
      rw [idx_y (by omega) e0 hel c60 he]
      omega
    · have hel : e < len l := Classical.byContradiction fun z => by rw [atI_no (by omega)] at c60; exact absurd c60 (by decide)
      rw [show atI l e = gt l e from if_pos ⟨by omega, hel⟩] at c60
      have hE := idx_y (l := l) (x := 34) (i := k + 1) (by omega) e0 hel c60 he
      rw [hE] at hQ1
      exact hQ1 _ F (by omega) rfl rfl rfl rfl
  have L : ∀ (N : Nat) (j : Int), (len l - j).toNat = N → k + 1 ≤ j → j ≤ len l → (∀ i, k + 1 ≤ i → i < j → gt l i ≠ 34) → W_qTakePhrase_4 k j τ Q := by
    intro N
    induction N using Nat.strongRecOn with
    | ind N ih =>
      intro j hN j0 j1 hj
      refine s_qTakePhrase_4 (t_qSee h ⟨by omega, by omega⟩ (fun r6 => ⟨fun c10 => ?_, fun c10 => t_qSee h ⟨by omega, by omega⟩ (fun r15 => ⟨fun c20 => ?_, fun c20 => ?_⟩)⟩))
      · have hjl : j = len l := Classical.byContradiction fun z => by
          have hjl : j < len l := by omega
          rw [show atI l j = gt l j from if_pos ⟨by omega, hjl⟩] at c10
          have := h.bt _ (gt_mem (l := l) (k := j) (by omega) hjl)
          omega
        exact S29 j j0 j1 hj (Or.inl hjl)
      · have hjl : j < len l := Classical.byContradiction fun z => c10 (atI_no (by omega))
        rw [show atI l j = gt l j from if_pos ⟨by omega, hjl⟩] at c20
        exact S29 j j0 j1 hj (Or.inr c20)
      · have hjl : j < len l := Classical.byContradiction fun z => c10 (atI_no (by omega))
        rw [show atI l j = gt l j from if_pos ⟨by omega, hjl⟩] at c20
        refine ih _ (by omega) (j + 1) rfl (by omega) (by omega) (fun i i0 i1 => ?_)
        by_cases q : i = j
        · rw [q]; exact c20
        · exact hj i i0 (by omega)
  exact s_qTakePhrase (L _ (k + 1) rfl (Int.le_refl _) (by omega) (fun i i0 i1 => absurd i1 (by omega)))
theorem t_qTakeRun {Q : TT → Prop} (h : QTX τ l) (hk : 0 ≤ k ∧ k ≤ len l) (hQ : ∀ τ', Fr τ τ' [264, 273, 274, 275] [] → τ'.1 275 = 0 → τ'.1 273 = k → τ'.1 274 = peF l k → τ'.1 264 = peF l k → Q τ') : w_qTakeRun k τ Q := by
  have h2 := h.2.2
  have hn := h.ln
  refine s_qTakeRun ⟨by omega, t_qRunEnd ((h.fr rfl rfl) : QTX ((τ.s 275 0).s 273 k) l) hk (fun r13 => hQ _ ((((Fr.rf.ps _ _).ps _ _).ps _ _).ps _ _) rfl rfl rfl rfl)⟩
theorem t_qFail {Q : TT → Prop} {w x : Int} (h0 : τ.1 265 = 0) (hw : -2147483648 ≤ w ∧ w < 2147483648) (hx : -2147483648 ≤ x ∧ x < 2147483648) (hQ : ∀ τ', Fr τ τ' [265, 266] [] → τ'.1 265 = w → τ'.1 266 = x → Q τ') : w_qFail w x τ Q :=
  s_qFail (fun r1 => ⟨fun c4 => absurd h0 c4, fun c4 => ⟨hw, hx, hQ _ ((Fr.rf.ps _ _).ps _ _) rfl rfl⟩⟩)
theorem t_qFail2 {Q : TT → Prop} {w x : Int} (h0 : τ.1 265 ≠ 0) (hQ : Q τ) : w_qFail w x τ Q :=
  s_qFail (fun r1 => ⟨fun c4 => hQ, fun c4 => absurd c4 h0⟩)
/-- what the next word is: its kind, its field, where the reader stands; kind -9: it is none -/
def nxQ (l : List Int) (s : Int) : Int × Int × Int :=
  if len l ≤ s then (0, 0, s)
  else if gt l s = 40 then (5, 0, s + 1)
  else if gt l s = 41 then (6, 0, s + 1)
  else if gt l s = 34 then (7, 0, s)
  else if ¬ chQP (gt l s) then (-9, 0, s)
  else if smA l s (peF l s) = true ∧ peF l s < len l ∧ gt l (peF l s) = 58 then (7, foF (sub l s (peF l s)), peF l s + 1)
  else if opQ (sub l s (peF l s)) = -1 then (7, 0, s)
  else (opQ (sub l s (peF l s)), 0, peF l s)
theorem opQ_in {t : List Int} : -1 ≤ opQ t ∧ opQ t ≤ 4 := by unfold opQ; repeat' split <;> omega
/-- the next word; its field is told where it is an atom -/
theorem t_qNext {Q : TT → Prop} (h : QTX τ l) (h264 : τ.1 264 = k) (hk : 0 ≤ k ∧ k ≤ len l) (h265 : τ.1 265 = 0)
    (hQ1 : ∀ τ', Fr τ τ' [264, 270, 271, 272] [] → (nxQ l (skQ l k)).1 ≠ -9 → τ'.1 270 = (nxQ l (skQ l k)).1 → τ'.1 271 = skQ l k → τ'.1 264 = (nxQ l (skQ l k)).2.2 → ((nxQ l (skQ l k)).1 = 7 → τ'.1 272 = (nxQ l (skQ l k)).2.1) → Q τ')
    (hQ0 : ∀ τ', Fr τ τ' [264, 265, 266, 270, 271, 272] [] → (nxQ l (skQ l k)).1 = -9 → τ'.1 265 = 2 → τ'.1 266 = skQ l k → Q τ') : w_qNext τ Q := by
  have h2 := h.2.2
  have hn := h.ln
  have L : ∀ (N : Nat) (j : Int) (τ1 : TT), (len l - j).toNat = N → 0 ≤ j → j ≤ len l → Fr τ τ1 [264] [] → τ1.1 264 = j → skQ l k = skQ l j → W_qNext_0 τ1 Q := by
    intro N
    induction N using Nat.strongRecOn with
    | ind N ih =>
      intro j τ1 hN j0 j1 hF hj hs
      have h1 : QTX τ1 l := h.fr (hF.s 263) (hF.a 178)
      have ha := h.at (k := j)
      refine s_qNext_0 ?_
      rw [hj]
      refine fun r3 => t_qSee h1 ⟨j0, by omega⟩ (fun r6 => t_qIsSpace (by omega) (fun hb r9 => ⟨fun c => absurd c (by decide), fun _ r17 => ⟨by omega, ?_⟩⟩) (fun hb r9 => ⟨fun _ r30 => ?_, fun c => absurd rfl c⟩))
      · have hjl : j < len l := Classical.byContradiction fun z => by rw [atI_no (by omega)] at hb; exact absurd hb (by decide)
        rw [show atI l j = gt l j from if_pos ⟨j0, hjl⟩] at hb
        rw [hj]
        exact ih _ (by omega) (j + 1) _ rfl (by omega) (by omega) (hF.ps _ _) rfl (by rw [hs, skQ, dif_pos ⟨j0, hjl, hb⟩])
      have hsj : skQ l k = j := by
        rw [hs, skQ, dif_neg (fun z => hb (by rw [show atI l j = gt l j from if_pos ⟨z.1, z.2.1⟩]; exact z.2.2))]
      rw [hsj] at hQ1 hQ0
      rw [hj]
      have F1 : Fr τ (τ1.s 271 j) [264, 270, 271, 272] [] := (show Fr τ τ1 [264, 270, 271, 272] [] from Fr.rf.tr hF).ps 271 j
      have h1' : QTX (τ1.s 271 j) l := h1.fr rfl rfl
      have e264 : (τ1.s 271 j).1 264 = j := hj
      have e265 : (τ1.s 271 j).1 265 = 0 := (hF.s 265).trans h265
      refine t_qSee h1' ⟨j0, by omega⟩ (fun r41 => ⟨fun c47 => ?_, fun c47 => ?_⟩)
      rotate_left
      · have hjl : len l ≤ j := Classical.byContradiction fun z => by
          rw [show atI l j = gt l j from if_pos ⟨j0, by omega⟩] at c47
          have := h.bt _ (gt_mem (l := l) (k := j) j0 (by omega))
          omega
        have e : nxQ l j = (0, 0, j) := if_pos hjl
        rw [e] at hQ1
        exact hQ1 _ (F1.ps _ _) (show (0 : Int) ≠ -9 by decide) rfl rfl e264 (fun z => absurd z (show ¬ (0 : Int) = 7 by decide))
      have hjl : j < len l := Classical.byContradiction fun z => c47 (atI_no (by omega))
      have hat : atI l j = gt l j := if_pos ⟨j0, hjl⟩
      rw [hat] at c47 ⊢
      have eN : nxQ l j = if gt l j = 40 then (5, 0, j + 1) else if gt l j = 41 then (6, 0, j + 1) else if gt l j = 34 then (7, 0, j) else if ¬ chQP (gt l j) then (-9, 0, j) else if smA l j (peF l j) = true ∧ peF l j < len l ∧ gt l (peF l j) = 58 then (7, foF (sub l j (peF l j)), peF l j + 1) else if opQ (sub l j (peF l j)) = -1 then (7, 0, j) else (opQ (sub l j (peF l j)), 0, peF l j) := if_neg (by omega)
      have P83 : ∀ x : Int, (x = 5 ∨ x = 6) → nxQ l j = (x, 0, j + 1) → W_qNext_83 x (τ1.s 271 j) Q := fun x hx e => by
        rw [e] at hQ1
        refine s_qNext_83 ⟨by omega, ?_⟩
        rw [e264]
        exact fun r88 => ⟨by omega, hQ1 _ ((F1.ps _ _).ps _ _) (show x ≠ -9 by omega) rfl rfl rfl (fun z => by have z2 : x = 7 := z; omega)⟩
      refine ⟨fun c61 => s_qNext_70 ⟨by omega, fun c74 => absurd c61 c74, fun c74 => P83 5 (Or.inl rfl) (by rw [eN, if_pos c61])⟩, fun c61 => ⟨fun c67 => ⟨fun c102 => ?_, fun c102 => ?_⟩, fun c67 => s_qNext_70 ⟨by omega, fun c74 => P83 6 (Or.inr rfl) (by rw [eN, if_neg c61, if_pos c67]), fun c74 => absurd c74 c61⟩⟩⟩
      rotate_left
      · have e : nxQ l j = (7, 0, j) := by rw [eN, if_neg c61, if_neg c67, if_pos c102]
        rw [e] at hQ1
        exact hQ1 _ ((F1.ps _ _).ps _ _) (show (7 : Int) ≠ -9 by decide) rfl rfl e264 (fun _ => rfl)
      refine t_qIsPart (by omega) (fun hp r120 => ⟨fun _ => ?_, fun c => absurd c (by decide)⟩) (fun hp r120 => ⟨fun c => absurd rfl c, fun _ => ?_⟩)
      rotate_left
      · have e : nxQ l j = (-9, 0, j) := by rw [eN, if_neg c61, if_neg c67, if_neg c102, if_pos hp]
        rw [e] at hQ0
        rw [e264]
        exact fun r129 => t_qFail e265 (by decide) r129 (fun τ2 hF2 e1 e2 => hQ0 τ2 ((show Fr τ (τ1.s 271 j) [264, 265, 266, 270, 271, 272] [] from Fr.rf.tr F1).tr hF2) rfl e1 e2)
      have hpe := peF_in (l := l) _ j rfl j0 j1
      have hpk : 0 ≤ j ∧ j ≤ peF l j ∧ peF l j ≤ len l := ⟨j0, hpe.1, hpe.2⟩
      have eM : nxQ l j = if smA l j (peF l j) = true ∧ peF l j < len l ∧ gt l (peF l j) = 58 then (7, foF (sub l j (peF l j)), peF l j + 1) else if opQ (sub l j (peF l j)) = -1 then (7, 0, j) else (opQ (sub l j (peF l j)), 0, peF l j) := by
        rw [eN, if_neg c61, if_neg c67, if_neg c102, if_neg (fun z => z hp)]
      -- unnamed
      have U : ¬ (smA l j (peF l j) = true ∧ peF l j < len l ∧ gt l (peF l j) = 58) → W_qNext_173 (peF l j) (τ1.s 271 j) Q := fun hno => by
        rw [if_neg hno] at eM
        refine s_qNext_173 (s_qNext_174 ⟨by decide, fun _ => ?_, fun c => absurd rfl c⟩)
        rw [e264]
        refine fun r185 => t_qOperator h1' hpk (fun r189 => ?_)
        have ho := opQ_in (t := sub l j (peF l j))
        generalize opQ (sub l j (peF l j)) = o at *
        have W208 : ∀ x : Int, (x = if o = -1 then 7 else o) → W_qNext_208 (peF l j) 0 o x (τ1.s 271 j) Q := fun x hx => by
          refine s_qNext_208 ⟨by rw [hx]; split <;> omega, by decide, fun _ => s_qNext_229 ⟨by decide, by decide, fun _ => ⟨by omega, fun c246 => ⟨by omega, ?_⟩, fun c246 => ?_⟩, fun c => absurd rfl c⟩, fun c => absurd rfl c⟩
          · rw [if_neg c246] at eM hx
            rw [eM] at hQ1
            refine hQ1 _ (((F1.ps _ _).ps _ _).ps _ _) (by show o ≠ -9; omega) ?_ rfl rfl (fun z => by have z2 : o = 7 := z; omega)
            show x = o; exact hx
          · rw [if_pos c246] at eM hx
            rw [eM] at hQ1
            have e3 : ((((τ1.s 271 j).s 270 x).s 272 0)).1 264 = j := e264
            have e4 : ((τ1.s 271 j).s 270 x).1 264 = j := e264
            rw [e4]
            exact fun r250 => hQ1 _ (((F1.ps _ _).ps _ _).ps _ _) (show (7 : Int) ≠ -9 by decide) hx rfl rfl (fun _ => rfl)
        refine s_qNext_192 ⟨by omega, fun c198 => W208 _ (if_neg c198).symm, fun c198 => W208 _ (if_pos c198).symm⟩
      rw [e264]
      refine fun r140 => t_qRunEnd h1' ⟨j0, j1⟩ (fun r143 => ?_)
      rw [e264]
      refine fun r149 => t_qIsLetters h1' hpk (fun hs2 r153 => ⟨fun c => absurd c (by decide), fun _ => t_qSee h1' ⟨by omega, by omega⟩ (fun r161 => ⟨fun c166 => U (fun z => c166 ?_), fun c166 => ?_⟩)⟩) (fun hs2 r153 => ⟨fun _ => U (fun z => hs2 z.1), fun c => absurd rfl c⟩)
      · rw [show atI l (peF l j) = gt l (peF l j) from if_pos ⟨by omega, z.2.1⟩]; exact z.2.2
      · have hpl : peF l j < len l := Classical.byContradiction fun z => by rw [atI_no (by omega)] at c166; exact absurd c166 (by decide)
        rw [show atI l (peF l j) = gt l (peF l j) from if_pos ⟨by omega, hpl⟩] at c166
        rw [if_pos ⟨hs2, hpl, c166⟩] at eM
        rw [eM] at hQ1
        refine s_qNext_174 ⟨by decide, fun c => absurd c (by decide), fun _ => s_qNext_192 ⟨by decide, fun c => absurd rfl c, fun _ => s_qNext_208 ⟨by decide, by decide, fun c => absurd c (by decide), fun _ => ?_⟩⟩⟩
        rw [e264]
        refine fun r218 => t_qFieldOf (h1'.fr rfl rfl) hpk hs2 (fun r222 => s_qNext_229 ⟨r222, by decide, fun c => absurd c (by decide), fun _ => ⟨by omega, ?_⟩⟩)
        exact hQ1 _ (((F1.ps _ _).ps _ _).ps _ _) (show (7 : Int) ≠ -9 by decide) rfl rfl rfl (fun _ => rfl)
  exact s_qNext (L _ k τ rfl hk.1 hk.2 Fr.rf h264 rfl)
end QNX
