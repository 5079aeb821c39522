/-! the twin: an atom is read -/
set_option maxRecDepth 100000
abbrev raS : List Int := [264, 265, 266, 273, 274, 275, 276, 277, 286, 291, 297, 298, 299, 300]
abbrev raA : List Int := [180, 181, 182, 183, 184, 185, 186, 187, 188, 189, 190, 191]
section QRA
variable {τ τ' : TT} {l : List Int} {as : List Ato} {D vs : List Den} {v : Ato} {k s c : Int}
theorem peF_ch : ∀ (N : Nat) (k : Int), (len l - k).toNat = N → ∀ i, k ≤ i → i < peF l k → chQP (gt l i) := by
  intro N
  induction N using Nat.strongRecOn with
  | ind N ih =>
    intro k hN i i0 i1
    rw [peF] at i1
    split at i1
    · rename_i hk
      by_cases q : i = k
      · rw [q]; exact hk.2.2
      · exact ih _ (by omega) (k + 1) rfl i (by omega) i1
    · omega
theorem wdF_op {w : List Int} (h : wdF l s w = true) (hs : 0 ≤ s ∧ s ≤ len l) : sub l s (peF l s) = w ∧ ¬ (peF l s < len l ∧ gt l (peF l s) = 58) := by
  unfold wdF at h
  rw [Bool.and_eq_true, Bool.and_eq_true, decide_eq_true_iff, decide_eq_true_iff] at h
  obtain ⟨h1, h2, h3⟩ := h
  have h4 := pAt_B.mpr h2
  have h5 := (pAt_sub (l := l) (m := w) (i := s) hs.1 h4.2.1).mp h4
  rw [show s + len w = peF l s by omega] at h5
  exact ⟨h5, fun z => by rcases h3 with y | y; omega; exact y z.2⟩
/-- what an atom's beginning is to both -/
theorem nx7 (hs : 0 ≤ s ∧ s < len l) (h : (nxQ l s).1 = 7) : atBad l s = false ∧ (nxQ l s).2.1 = atFld l s ∧ (nxQ l s).2.2 = atAt l s ∧ (s ≤ atAt l s ∧ atAt l s ≤ len l) ∧ (atAt l s = s → gt l s = 34 ∨ chQP (gt l s)) := by
  have hpe := peF_in (l := l) _ s rfl hs.1 (by omega)
  have BAD : ¬ sub l s (peF l s) = kAND ∧ ¬ sub l s (peF l s) = kOR ∧ ¬ sub l s (peF l s) = kXOR ∨ (peF l s < len l ∧ gt l (peF l s) = 58) → gt l s ≠ 41 → gt l s ≠ 58 → atBad l s = false := fun z h1 h2 => by
    have W : ∀ w, wdF l s w = true → ¬ sub l s (peF l s) = w ∨ (peF l s < len l ∧ gt l (peF l s) = 58) → False := fun w hw y => by
      have x := wdF_op hw ⟨hs.1, by omega⟩
      rcases y with y | y
      · exact y x.1
      · exact x.2 y
    have F : ∀ w, (¬ sub l s (peF l s) = w ∨ (peF l s < len l ∧ gt l (peF l s) = 58)) → wdF l s w = false := fun w y => Bool.eq_false_iff.mpr (fun hw => W w hw y)
    have S : ∀ x, gt l s ≠ x → sgQ l s x = false := fun x hx => by
      unfold sgQ
      exact decide_eq_false (fun y => hx y.2)
    unfold atBad
    rw [decide_eq_false (by omega), F _ (z.imp (fun y => y.1) id), F _ (z.imp (fun y => y.2.1) id), F _ (z.imp (fun y => y.2.2) id), S 41 h1, S 58 h2]
    rfl
  unfold nxQ at h ⊢
  by_cases c1 : len l ≤ s
  · omega
  rw [if_neg c1] at h ⊢
  by_cases c2 : gt l s = 40
  · rw [if_pos c2] at h; exact absurd h (show ¬ (5 : Int) = 7 by decide)
  rw [if_neg c2] at h ⊢
  by_cases c3 : gt l s = 41
  · rw [if_pos c3] at h; exact absurd h (show ¬ (6 : Int) = 7 by decide)
  rw [if_neg c3] at h ⊢
  by_cases c4 : gt l s = 34
  · rw [if_pos c4]
    have hp : peF l s = s := by rw [peF, dif_neg (fun z => by have := z.2.2; rw [c4] at this; exact absurd this (by decide))]
    have hsm : smA l s (peF l s) = false := by rw [hp]; unfold smA; rw [decide_eq_false (by omega)]; rfl
    have e0 : sub l s (peF l s) = [] := List.eq_nil_of_length_eq_zero (by
      have h1 : ((sub l s (peF l s)).length : Int) = peF l s - s := len_sub (l := l) (i := s) (n := peF l s) ⟨hs.1, by omega, by omega⟩
      omega)
    have eD : atIsD l s = false := by unfold atIsD; rw [hsm]; rfl
    refine ⟨BAD (Or.inl (by rw [e0]; decide)) (by omega) (by omega), ?_, ?_, ?_, fun _ => Or.inl c4⟩
    · unfold atFld; rw [if_neg (by rw [eD]; decide)]
    · unfold atAt; rw [if_neg (by rw [eD]; decide)]
    · unfold atAt; rw [if_neg (by rw [eD]; decide)]; omega
  rw [if_neg c4] at h ⊢
  by_cases c5 : ¬ chQP (gt l s)
  · rw [if_pos c5] at h; exact absurd h (show ¬ (-9 : Int) = 7 by decide)
  rw [if_neg c5] at h ⊢
  have c5' : chQP (gt l s) := Classical.byContradiction c5
  have n58 : gt l s ≠ 58 := fun z => by rw [z] at c5'; exact absurd c5' (by decide)
  by_cases c6 : smA l s (peF l s) = true ∧ peF l s < len l ∧ gt l (peF l s) = 58
  · rw [if_pos c6]
    have eD : atIsD l s = true := by unfold atIsD; rw [c6.1, Bool.true_and]; exact decide_eq_true c6.2
    refine ⟨BAD (Or.inr c6.2) c3 n58, ?_, ?_, ?_, fun z => ?_⟩
    · unfold atFld; rw [if_pos eD]
    · unfold atAt; rw [if_pos eD]
    · unfold atAt; rw [if_pos eD]; omega
    · exact Or.inr c5'
  · rw [if_neg c6] at h ⊢
    have eD : atIsD l s = false := by
      unfold atIsD
      refine Bool.eq_false_iff.mpr (fun z => c6 ?_)
      rw [Bool.and_eq_true, decide_eq_true_iff] at z
      exact z
    by_cases c7 : opQ (sub l s (peF l s)) = -1
    · rw [if_pos c7]
      refine ⟨BAD (Or.inl ⟨fun z => ?_, fun z => ?_, fun z => ?_⟩) c3 n58, ?_, ?_, ?_, fun _ => Or.inr c5'⟩
      · rw [z] at c7; exact absurd c7 (by decide)
      · rw [z] at c7; exact absurd c7 (by decide)
      · rw [z] at c7; exact absurd c7 (by decide)
      · unfold atFld; rw [if_neg (by rw [eD]; decide)]
      · unfold atAt; rw [if_neg (by rw [eD]; decide)]
      · unfold atAt; rw [if_neg (by rw [eD]; decide)]; omega
    · rw [if_neg c7] at h
      have ho := opQ_in (t := sub l s (peF l s))
      have h : opQ (sub l s (peF l s)) = 7 := h
      omega
theorem t_qReadAtom {Q : TT → Prop} (h : QTX τ l) (hs : 0 ≤ s ∧ s < len l) (h7 : (nxQ l s).1 = 7) (h271 : τ.1 271 = s) (h264 : τ.1 264 = (nxQ l s).2.2) (h272 : τ.1 272 = (nxQ l s).2.1) (h265 : τ.1 265 = 0) (hA : ATS τ l as) (h277 : τ.1 277 = lnW as) (hc : lnW as ≤ 40) (hN : NDS τ as D) (hV : VLQ τ D vs) (hb : lnW D < 700 ∧ lnW vs < 700)
    (hQ0 : ∀ τ', Fr τ τ' raS raA → (atF l s (lnW as)).1.1 ≠ 0 → τ'.1 265 = (atF l s (lnW as)).1.1 → τ'.1 266 = (atF l s (lnW as)).1.2 → Q τ')
    (hQ1 : ∀ τ' v k2 g, atF l s (lnW as) = ((0, 0), dLf v, k2, lnW as + 1, g) → Fr τ τ' raS raA → τ'.1 264 = k2 → τ'.1 265 = 0 → τ'.1 277 = lnW as + 1 → ATS τ' l (as ++ [v]) → NDS τ' (as ++ [v]) (D ++ [dLf v]) → VLQ τ' (D ++ [dLf v]) (dLf v :: vs) → (s < k2 ∧ k2 ≤ len l) → Q τ') : w_qReadAtom τ Q := by
  obtain ⟨n1, n2, n3, ⟨n4, n5⟩, n6⟩ := nx7 hs h7
  have hn := h.ln
  have h2 := h.2.2
  have l0 := lnW_nn (l := as)
  have lD := lnW_nn (l := D)
  rw [n3] at h264
  rw [n2] at h272
  -- its reading, step by step
  have eA : atF l s (lnW as) = if atFld l s < 0 then pX 3 s (atCo l s) else if lnW as = 40 ∧ s < atAt l s then pX 5 s (atCo l s) else if atPh l (atAt l s) = true ∧ atLast l (atAt l s) < atAt l s + 2 then pX 2 (atAt l s) (atCo l s) else if atPh l (atAt l s) = false ∧ atLast l (atAt l s) = atAt l s then pX (txW l (atAt l s)) (atAt l s) (atCo l s) else if gdF (atFld l s) (atTxt l (atAt l s)) (atPh l (atAt l s)) = false then pX 4 (atAt l s) (atCo l s) else if lnW as = 40 then pX 5 s (atCo l s) else ((0, 0), dLf (atFld l s, atTxt l (atAt l s), atPh l (atAt l s)), (if atPh l (atAt l s) = true then atLast l (atAt l s) + 1 else atLast l (atAt l s)), lnW as + 1, atCo l s) := by
    show (if atBad l s = true then _ else _) = _
    rw [if_neg (by rw [n1]; decide)]
  have hfo : atFld l s = -1 ∨ (0 ≤ atFld l s ∧ atFld l s ≤ 12) := by
    unfold atFld
    split
    · exact foF_in
    · right; decide
  have n7 : atFld l s < 0 → s < atAt l s := fun z => by
    have hpe := peF_in (l := l) _ s rfl hs.1 (by omega)
    unfold atFld at z
    unfold atAt
    by_cases c : atIsD l s = true
    · rw [if_pos c]; omega
    · rw [if_neg c] at z; omega
  generalize hR : atF l s (lnW as) = R at *
  generalize atFld l s = fd at *
  generalize atAt l s = p at *
  generalize atCo l s = co at *
  -- a fault
  obtain ⟨FP, hFP⟩ : ∃ FP : TT → Prop, FP = fun τ1 => R.1.1 ≠ 0 ∧ τ1.1 265 = R.1.1 ∧ τ1.1 266 = R.1.2 := ⟨_, rfl⟩
  have FPf : ∀ τ1 τ2 sc ar, FP τ1 → Fr τ1 τ2 sc ar → sc.contains 265 = false → sc.contains 266 = false → FP τ2 := fun τ1 τ2 sc ar z hF c1 c2 => by
    rw [hFP] at z ⊢
    exact ⟨z.1, (hF.s 265 c1).trans z.2.1, (hF.s 266 c2).trans z.2.2⟩
  have FP0 : ∀ τ1, FP τ1 → τ1.1 265 ≠ 0 := fun τ1 z => by rw [hFP] at z; rw [z.2.1]; exact z.1
  have G220 : ∀ τ1, Fr τ τ1 raS raA → FP τ1 → W_qReadAtom_220 τ1 Q := fun τ1 hF z => s_qReadAtom_220 (fun r221 => ⟨fun _ => by rw [hFP] at z; exact hQ0 τ1 hF z.1 z.2.1 z.2.2, fun c => absurd c (FP0 τ1 z)⟩)
  have G202 : ∀ τ1, Fr τ τ1 raS raA → FP τ1 → W_qReadAtom_202 τ1 Q := fun τ1 hF z => s_qReadAtom_202 (fun r203 => ⟨fun _ => G220 τ1 hF z, fun _ r214 => t_qFail2 (FP0 τ1 z) (G220 τ1 hF z)⟩)
  have G163 : ∀ τ1, Fr τ τ1 raS raA → FP τ1 → W_qReadAtom_163 τ1 Q := fun τ1 hF z => s_qReadAtom_163 (fun r164 => ⟨fun _ => G202 τ1 hF z, fun c => absurd c (FP0 τ1 z)⟩)
  have MK : ∀ τ1 w x, R.1 = (w, x) → w ≠ 0 → τ1.1 265 = w → τ1.1 266 = x → FP τ1 := fun τ1 w x e hw e1 e2 => by
    rw [hFP]
    dsimp only
    rw [e]
    exact ⟨hw, e1, e2⟩
  -- the text is there
  have OK : ∀ (τ1 : TT) (a b k2 : Int) (ph : Bool), Fr τ τ1 [264, 273, 274, 275] [] → τ1.1 264 = k2 → τ1.1 273 = a → τ1.1 274 = b → τ1.1 275 = b2i ph → ¬ fd < 0 → ¬ (lnW as = 40 ∧ s < p) → (0 ≤ a ∧ a ≤ b ∧ b ≤ len l) → atPh l p = ph → atTxt l p = sub l a b → ((ph = true ∧ a = p + 1 ∧ atLast l p = b ∧ k2 = b + 1 ∧ p + 2 ≤ b ∧ k2 ≤ len l) ∨ (ph = false ∧ a = p ∧ atLast l p = b ∧ k2 = b ∧ p < b ∧ ∀ i, a ≤ i → i < b → gt l i ≠ 0)) → W_qReadAtom_163 τ1 Q := fun τ1 a b k2 ph hF1 e264 e273 e274 e275 hfd h40 hab ePh eTx hcs => by
    have F1 : Fr τ τ1 raS raA := Fr.rf.tr hF1
    have e265 : τ1.1 265 = 0 := (hF1.s 265).trans h265
    have q1 : ¬ (atPh l p = true ∧ atLast l p < p + 2) := fun z => by
      rw [ePh] at z
      rcases hcs with ⟨y1, y2, y3, y4, y5, y6⟩ | ⟨y1, y2, y3, y4, y5, y6⟩
      · omega
      · rw [y1] at z; exact absurd z.1 (by decide)
    have q2 : ¬ (atPh l p = false ∧ atLast l p = p) := fun z => by
      rw [ePh] at z
      rcases hcs with ⟨y1, y2, y3, y4, y5, y6⟩ | ⟨y1, y2, y3, y4, y5, y6⟩
      · rw [y1] at z; exact absurd z.1 (by decide)
      · omega
    rw [if_neg hfd, if_neg h40, if_neg q1, if_neg q2, ePh, eTx] at eA
    have hk2 : (if ph = true then atLast l p + 1 else atLast l p) = k2 := by
      rcases hcs with ⟨y1, y2, y3, y4, y5, y6⟩ | ⟨y1, y2, y3, y4, y5, y6⟩
      · rw [if_pos y1]; omega
      · rw [if_neg (by rw [y1]; decide)]; omega
    rw [hk2] at eA
    have hkk : s < k2 ∧ k2 ≤ len l := by
      rcases hcs with ⟨y1, y2, y3, y4, y5, y6⟩ | ⟨y1, y2, y3, y4, y5, y6⟩ <;> omega
    have hf12 : 0 ≤ fd ∧ fd ≤ 12 := by omega
    have h1 : QTX τ1 l := h.fr (hF1.s 263) (hF1.a 178)
    have hpl : (if ph = true then a - 1 else a) = p := by
      rcases hcs with ⟨y1, y2, -⟩ | ⟨y1, y2, -⟩
      · rw [if_pos y1]; omega
      · rw [if_neg (by rw [y1]; decide)]; omega
    refine s_qReadAtom_163 (fun r164 => ⟨fun c => absurd e265 c, fun _ => t_qIsRight h1 ((hF1.s 272).trans h272) e273 e274 e275 hab hf12 (fun y => ?_) (fun τ2 hF2 a1 a2 a3 r171 => ⟨fun _ => ?_, fun c => absurd c (by decide)⟩) (fun τ2 hF2 a1 r171 => ⟨fun c => absurd rfl c, fun _ => ?_⟩)⟩)
    · rcases hcs with ⟨y1, -⟩ | ⟨y1, y2, y3, y4, y5, y6⟩
      · rw [y1] at y; cases y
      · exact ⟨by omega, y6⟩
    · rw [if_neg (by rw [a1]; decide)] at eA
      have F2 : Fr τ τ2 raS raA := F1.tr hF2
      have f265 : τ2.1 265 = 0 := (hF2.s 265).trans e265
      have f277 : τ2.1 277 = lnW as := (hF2.s 277).trans ((hF1.s 277).trans h277)
      have f271 : τ2.1 271 = s := (hF2.s 271).trans ((hF1.s 271).trans h271)
      refine s_qReadAtom_202 ?_
      rw [f277]
      refine fun r203 => ⟨fun c208 => ?_, fun c208 => ?_⟩
      rotate_left
      · rw [if_pos c208] at eA
        rw [f271]
        refine fun r214 => t_qFail f265 (by decide) (by omega) (fun τ3 hF3 g1 g2 => G220 τ3 (F2.tr hF3) (MK τ3 5 s (by rw [eA]; rfl) (by decide) g1 g2))
      · rw [if_neg c208] at eA
        refine s_qReadAtom_220 (fun r221 => ⟨fun c => absurd f265 c, fun _ => ?_⟩)
        rw [f277]
        have F3 : Fr τ (τ2.s 277 (lnW as + 1)) raS raA := F2.ps _ _
        have hA2 : ATS (τ2.s 277 (lnW as + 1)) l as := ((hA.fr hF1).fr hF2).fr (Fr.rf.ps _ _ : Fr τ2 _ [277] [])
        have h3 : QTX (τ2.s 277 (lnW as + 1)) l := h.fr (F3.s 263) (F3.a 178)
        refine fun r229 => ⟨by omega, t_qAtomNumber (fld := fd) (ph := ph) h3 hA2 (by omega) ?_ ?_ ?_ ?_ hab hf12 a2 a3 (fun τ4 hF4 b1 b2 r238 => ?_)⟩
        · show τ2.1 272 = fd; rw [hF2.s 272, hF1.s 272]; exact h272
        · show τ2.1 273 = a; rw [hF2.s 273]; exact e273
        · show τ2.1 274 = b; rw [hF2.s 274]; exact e274
        · show τ2.1 275 = b2i ph; rw [hF2.s 275]; exact e275
        rw [b1]
        have F4 : Fr τ (τ4.a 184 (lnW as) (0 + 1)) raS raA := (F3.tr hF4).pa _ _ _
        have hN4 : NDS (τ4.a 184 (lnW as) (0 + 1)) (as ++ [(fd, sub l a b, ph)]) D := ((((hN.fr hF1).fr hF2).fr (Fr.rf.ps _ _ : Fr τ2 (τ2.s 277 (lnW as + 1)) [277] [])).fr hF4).fr (Fr.rf.pa _ _ _ : Fr τ4 _ [] [184]) |>.asx
        have hV4 : VLQ (τ4.a 184 (lnW as) (0 + 1)) D vs := ((((hV.fr hF1).fr hF2).fr (Fr.rf.ps _ _ : Fr τ2 (τ2.s 277 (lnW as + 1)) [277] [])).fr hF4).fr (Fr.rf.pa _ _ _ : Fr τ4 _ [] [184])
        refine ⟨by omega, fun r248 => ⟨by decide, t_qNode (d := dLf (fd, sub l a b, ph)) hN4 hb.1 (by decide) (by omega) (by decide) wfD.lf (Or.inl ⟨rfl, _, l0, by rw [show (lnW as).toNat = as.length by unfold lnW; omega]; exact get_last, rfl⟩) (fun τ5 hF5 b3 r258 => ?_)⟩⟩
        have hV5 : VLQ τ5 (D ++ [dLf (fd, sub l a b, ph)]) vs := (hV4.fr hF5).mo
        refine t_qPush hV5 hb.2 ⟨lD, by omega⟩ (by rw [show (lnW D).toNat = D.length by unfold lnW; omega]; exact get_last) (fun τ6 hF6 b4 => ?_)
        refine hQ1 τ6 _ k2 co eA ((F4.tr hF5).tr hF6) ?_ ?_ ?_ ((b2.fr hF5).fr hF6) (b3.fr hF6) b4 hkk
        · rw [hF6.s 264, hF5.s 264]
          show τ4.1 264 = k2
          rw [hF4.s 264]
          show τ2.1 264 = k2
          rw [hF2.s 264]; exact e264
        · rw [hF6.s 265, hF5.s 265]
          show τ4.1 265 = 0
          rw [hF4.s 265]
          exact f265
        · rw [hF6.s 277, hF5.s 277]
          show τ4.1 277 = _
          rw [hF4.s 277]
          rfl
    · rw [if_pos a1] at eA
      have F2 : Fr τ τ2 raS raA := F1.tr hF2
      have f265 : τ2.1 265 = 0 := (hF2.s 265).trans e265
      have f273 : τ2.1 273 = a := (hF2.s 273).trans e273
      have f275 : τ2.1 275 = b2i ph := (hF2.s 275).trans e275
      have E199 : W_qReadAtom_199 p 4 τ2 Q := s_qReadAtom_199 (t_qFail f265 (by decide) (by omega) (fun τ3 hF3 g1 g2 => G202 τ3 (F2.tr hF3) (MK τ3 4 p (by rw [eA]; rfl) (by decide) g1 g2)))
      rw [f275, f273]
      refine fun r180 => ⟨fun c183 r196 => ?_, fun c183 r187 => ?_⟩
      · have z : ph = false := by
          cases ph with
          | false => rfl
          | true => exact absurd c183 (by decide)
        rw [if_neg (by rw [z]; decide)] at hpl
        rw [hpl]; exact E199
      · have z : ph = true := by
          cases ph with
          | true => rfl
          | false => exact absurd rfl c183
        rw [if_pos z] at hpl
        rw [hpl]; exact E199
  -- the text
  have G60 : ∀ τ1, Fr τ τ1 [265, 266] [] → (FP τ1 ∨ (τ1.1 265 = 0 ∧ τ1 = τ ∧ ¬ fd < 0 ∧ ¬ (lnW as = 40 ∧ s < p))) → W_qReadAtom_60 τ1 Q := fun τ1 hF1 hor => by
    have F1 : Fr τ τ1 raS raA := Fr.rf.tr hF1
    have h1 : QTX τ1 l := h.fr (hF1.s 263) (hF1.a 178)
    have e264 : τ1.1 264 = p := (hF1.s 264).trans h264
    have ha := h.at (k := p)
    have hpe := peF_in (l := l) _ p rfl (by omega) n5
    refine s_qReadAtom_60 ?_
    rw [e264]
    refine fun r62 => t_qSee h1 ⟨by omega, by omega⟩ (fun r65 => ⟨fun c72 => ?_, fun c72 => ?_⟩)
    · have hph : atPh l p = false := by
        unfold atPh
        exact decide_eq_false (fun z => c72 (by rw [show atI l p = gt l p from if_pos ⟨by omega, z.1⟩]; exact z.2))
      have hla : atLast l p = peF l p := by unfold atLast; rw [if_neg (by rw [hph]; decide)]
      -- nothing there
      have NONE : ∀ w : Int, (w = 1 ∨ w = 2) → (¬ chQP (atI l p)) → txW l p = w → W_qReadAtom_156 w τ1 Q := fun w hw hnp htx => by
        refine s_qReadAtom_156 ?_
        rw [e264]
        rcases hor with z | ⟨z1, z2, z3, z4⟩
        · exact fun r157 => t_qFail2 (FP0 τ1 z) (G163 τ1 F1 z)
        · have hpp : peF l p = p := by
            rw [peF, dif_neg (fun y => hnp (by rw [show atI l p = gt l p from if_pos ⟨y.1, y.2.1⟩]; exact y.2.2))]
          rw [if_neg z3, if_neg z4, if_neg (fun y => by rw [hph] at y; exact absurd y.1 (by decide)), if_pos ⟨hph, by rw [hla]; exact hpp⟩, htx] at eA
          exact fun r157 => t_qFail z1 (by omega) (by omega) (fun τ3 hF3 g1 g2 => G163 τ3 (F1.tr hF3) (MK τ3 w p (by rw [eA]; rfl) (by omega) g1 g2))
      have E140 : ¬ chQP (atI l p) → txW l p = 1 → W_qReadAtom_140 τ1 Q := fun y1 y2 => s_qReadAtom_140 (s_qReadAtom_145 ⟨by decide, fun c => absurd c (by decide), fun _ => NONE 1 (Or.inl rfl) y1 y2⟩)
      have TX1 : ¬ (p < len l ∧ (gt l p < 33 ∨ 126 < gt l p ∨ gt l p = 58) ∧ gt l p ≠ 32 ∧ gt l p ≠ 9) → txW l p = 1 := fun y => if_neg y
      refine t_qIsPart (by omega) (fun hp r98 => ⟨fun c => absurd c (by decide), fun _ => ?_⟩) (fun hp r98 => ⟨fun _ => ⟨fun c117 => E140 hp (TX1 (fun z => ?_)), fun c117 => ?_⟩, fun c => absurd rfl c⟩)
      · rw [e264]
        refine fun r106 => t_qTakeRun h1 ⟨by omega, n5⟩ (fun τ2 hF2 g1 g2 g3 g4 => ?_)
        rcases hor with z | ⟨z1, z2, z3, z4⟩
        · exact G163 τ2 (F1.tr hF2) (FPf τ1 τ2 _ _ z hF2 rfl rfl)
        · have hpl : p < len l := Classical.byContradiction fun y => by rw [atI_no (by omega)] at hp; exact absurd hp (by decide)
          rw [show atI l p = gt l p from if_pos ⟨by omega, hpl⟩] at hp
          have hlt : p < peF l p := by
            rw [peF, dif_pos ⟨by omega, hpl, hp⟩]
            have := (peF_in (l := l) _ (p + 1) rfl (by omega) (by omega)).1
            omega
          rw [z2] at hF2
          refine OK τ2 p (peF l p) (peF l p) false hF2 g4 g2 g3 g1 z3 z4 ⟨by omega, by omega, hpe.2⟩ hph ?_ (Or.inr ⟨rfl, rfl, hla, rfl, hlt, fun i i0 i1 y => ?_⟩)
          · unfold atTxt
            rw [if_neg (by rw [hph]; decide), hla]
          · have w := peF_ch (l := l) _ p rfl i i0 i1
            rw [y] at w
            exact absurd w (by decide)
      · have hpl : p < len l := z.1
        rw [show atI l p = gt l p from if_pos ⟨by omega, hpl⟩] at c117
        have := h.bt _ (gt_mem (l := l) (k := p) (by omega) hpl)
        omega
      · have hpl : p < len l := Classical.byContradiction fun y => c117 (atI_no (by omega))
        have hat : atI l p = gt l p := if_pos ⟨by omega, hpl⟩
        have hbt := h.bt _ (gt_mem (l := l) (k := p) (by omega) hpl)
        refine t_qIsSpace (by omega) (fun hb r122 => ⟨fun _ => E140 hp (TX1 (fun z => ?_)), fun c => absurd c (by decide)⟩) (fun hb r122 => ⟨fun c => absurd rfl c, fun _ => ⟨fun c131 => E140 hp (TX1 (fun z => ?_)), fun c131 => ⟨fun c137 => s_qReadAtom_145 ⟨by decide, fun _ => NONE 2 (Or.inr rfl) hp (if_pos ?_), fun c => absurd rfl c⟩, fun c137 => E140 hp (TX1 (fun z => ?_))⟩⟩⟩)
        · rw [hat] at hb
          rcases hb with y | y
          · exact z.2.2.1 y
          · exact z.2.2.2 y
        · omega
        · rw [hat] at hp hb c72 c131 c137
          unfold chQP at hp
          unfold chBl at hb
          omega
        · omega
    · have hpl : p < len l := Classical.byContradiction fun y => by rw [atI_no (by omega)] at c72; exact absurd c72 (by decide)
      rw [show atI l p = gt l p from if_pos ⟨by omega, hpl⟩] at c72
      have hph : atPh l p = true := by unfold atPh; exact decide_eq_true ⟨hpl, c72⟩
      have hla : atLast l p = idx l 34 (p + 1) := by unfold atLast; rw [if_pos hph]
      have hix := idx_in (l := l) (x := 34) (i := p + 1) (by omega) (len_nn l)
      rw [e264]
      refine fun r76 => t_qTakePhrase h1 ⟨by omega, hpl⟩ (fun τ2 hF2 g0 g1 g2 g3 g4 r82 => ⟨fun _ => s_qReadAtom_94 ?_, fun c => absurd c (by decide)⟩) (fun τ2 hF2 g0 r82 => ⟨fun c => absurd rfl c, fun _ => ?_⟩)
      · rcases hor with z | ⟨z1, z2, z3, z4⟩
        · exact G163 τ2 (F1.tr hF2) (FPf τ1 τ2 _ _ z hF2 rfl rfl)
        · rw [z2] at hF2
          refine OK τ2 (p + 1) (idx l 34 (p + 1)) (idx l 34 (p + 1) + 1) true hF2 g4 g2 g3 g1 z3 z4 ⟨by omega, by omega, by omega⟩ hph ?_ (Or.inl ⟨rfl, rfl, hla, rfl, g0, by omega⟩)
          unfold atTxt
          rw [if_pos hph, hla]
      · rcases hor with z | ⟨z1, z2, z3, z4⟩
        · have z' := FPf τ1 τ2 _ _ z hF2 rfl rfl
          exact t_qFail2 (FP0 τ2 z') (s_qReadAtom_94 (G163 τ2 (F1.tr hF2) z'))
        · have e5 : τ2.1 265 = 0 := (hF2.s 265).trans z1
          rw [if_neg z3, if_neg z4, if_pos ⟨hph, by omega⟩] at eA
          exact t_qFail e5 (by decide) (by omega) (fun τ3 hF3 g1 g2 => s_qReadAtom_94 (G163 τ3 ((F1.tr hF2).tr hF3) (MK τ3 2 p (by rw [eA]; rfl) (by decide) g1 g2)))
  -- the name
  have G38 : ∀ (nm : Int) τ1, (nm = 0 ∨ nm = 1) → (nm = 1 ↔ s < p) → Fr τ τ1 [265, 266] [] → (FP τ1 ∨ (τ1.1 265 = 0 ∧ τ1 = τ ∧ ¬ fd < 0)) → W_qReadAtom_38 nm τ1 Q := fun nm τ1 hnm hsp hF1 hor => by
    have e277 : τ1.1 277 = lnW as := (hF1.s 277).trans h277
    have e271 : τ1.1 271 = s := (hF1.s 271).trans h271
    refine s_qReadAtom_38 ⟨by omega, fun c39 => G60 τ1 hF1 (hor.imp id (fun z => ⟨z.1, z.2.1, z.2.2, fun y => by omega⟩)), fun c39 => ?_⟩
    rw [e277]
    refine fun r43 => ⟨fun c48 => G60 τ1 hF1 (hor.imp id (fun z => ⟨z.1, z.2.1, z.2.2, fun y => c48 y.1⟩)), fun c48 => ?_⟩
    rw [e271]
    rcases hor with z | ⟨z1, z2, z3⟩
    · exact fun r54 => t_qFail2 (FP0 τ1 z) (G60 τ1 hF1 (Or.inl z))
    · rw [if_neg z3, if_pos ⟨c48, by omega⟩] at eA
      exact fun r54 => t_qFail z1 (by decide) (by omega) (fun τ3 hF3 g1 g2 => G60 τ3 (hF1.tr hF3) (Or.inl (MK τ3 5 s (by rw [eA]; rfl) (by decide) g1 g2)))
  have G16 : ∀ nm : Int, (nm = 0 ∨ nm = 1) → (nm = 1 ↔ s < p) → (fd < 0 → nm = 1) → W_qReadAtom_16 nm τ Q := fun nm hnm hsp hfd => by
    refine s_qReadAtom_16 ⟨by omega, fun c18 => G38 nm τ hnm hsp Fr.rf (Or.inr ⟨h265, rfl, fun y => by have := hfd y; omega⟩), fun c18 => ?_⟩
    rw [h272]
    refine fun r22 => ⟨fun c26 => G38 nm τ hnm hsp Fr.rf (Or.inr ⟨h265, rfl, by omega⟩), fun c26 => ?_⟩
    rw [h271]
    rw [if_pos (by omega)] at eA
    exact fun r32 => t_qFail h265 (by decide) (by omega) (fun τ3 hF3 g1 g2 => G38 nm τ3 hnm hsp hF3 (Or.inl (MK τ3 3 s (by rw [eA]; rfl) (by decide) g1 g2)))
  refine s_qReadAtom ?_
  rw [h264, h271]
  refine fun r1 r5 => ⟨fun c8 => G16 0 (Or.inl rfl) ⟨fun z => absurd z (by decide), fun z => by omega⟩ (fun z => absurd (n7 z) (by omega)), fun c8 => G16 1 (Or.inr rfl) ⟨fun _ => c8, fun _ => rfl⟩ (fun _ => rfl)⟩
end QRA
