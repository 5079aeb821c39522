/-! queries: words and values as both see them (plain) -/
set_option maxRecDepth 100000
/-- trees that say the same -/
def eqD (T U : Den) : Prop := ∀ ev j, tvD ev T j = tvD ev U j
theorem eqD.rf {T : Den} : eqD T T := fun _ _ => rfl
theorem eqD.no {T U : Den} (h : eqD T U) (hT : wfD T) (hU : wfD U) : eqD (dNo T) (dNo U) := fun ev j => by rw [tvD_no hT, tvD_no hU, h ev j]
theorem eqD.cm {T U T' U' : Den} {sg : Int} (h : eqD T T') (h2 : eqD U U') (hT : wfD T) (hU : wfD U) (hT' : wfD T') (hU' : wfD U') (hs : sg = -3 ∨ sg = -4 ∨ sg = -5) : eqD (cmb sg T U) (cmb sg T' U') := fun ev j => by rw [tvD_cmb hT hU hs, tvD_cmb hT' hU' hs, h ev j, h2 ev j]
/-- so many times not -/
def ntD : Nat → Den → Den
  | 0, W => W
  | j + 1, W => ntD j (dNo W)
theorem ntD_wf : ∀ (j : Nat) {W : Den}, wfD W → wfD (ntD j W)
  | 0, _, h => h
  | j + 1, _, h => ntD_wf j h.no
theorem ntD_tv : ∀ (j : Nat) {W : Den} (_ : wfD W) (ev : Evl) (i : Int), tvD ev (ntD j W) i = (if j % 2 = 1 then !tvD ev W i else tvD ev W i)
  | 0, W, _, ev, i => rfl
  | j + 1, W, h, ev, i => by
    show tvD ev (ntD j (dNo W)) i = _
    rw [ntD_tv j h.no ev i, tvD_no h]
    by_cases c : j % 2 = 1
    · rw [if_pos c, if_neg (by omega), Bool.not_not]
    · rw [if_neg c, if_pos (by omega)]
theorem ntD_eq {j : Nat} {W U : Den} (h : eqD W U) (hW : wfD W) (hU : wfD U) : eqD (ntD j W) (if j % 2 = 1 then dNo U else U) := fun ev i => by
  rw [ntD_tv j hW ev i, h ev i]
  by_cases c : j % 2 = 1
  · rw [if_pos c, if_pos c, tvD_no hU]
  · rw [if_neg c, if_neg c]
theorem RA_ntD : ∀ (j : Nat) (W : Den), RA (List.replicate j 4) [W] (ntD j W)
  | 0, _ => rfl
  | j + 1, W => Or.inl ⟨rfl, W, [], rfl, RA_ntD j (dNo W)⟩
theorem RA_app {f : Int} {W W2 : Den} (hf : f = 1 ∨ f = 2 ∨ f = 3) : ∀ {P : List Int} {vs : List Den}, RA P vs W2 → RA (P ++ [f]) (vs ++ [W]) (cmb (sgf f) W W2)
  | [], vs, h => by
    have h : vs = [W2] := h
    rw [h]
    exact Or.inr ⟨hf, W2, W, [], rfl, rfl⟩
  | o :: r, vs, h => by
    rcases h with ⟨z, v, q, z1, z2⟩ | ⟨z, v, u, q, z1, z2⟩
    · refine Or.inl ⟨z, v, q ++ [W], by rw [z1]; rfl, RA_app hf z2⟩
    · refine Or.inr ⟨z, v, u, q ++ [W], by rw [z1]; rfl, RA_app hf z2⟩
theorem RA_wf : ∀ {P : List Int} {vs : List Den} {W : Den}, RA P vs W → (∀ d, d ∈ vs → wfD d) → wfD W
  | [], vs, W, h, hw => by
    have h : vs = [W] := h
    exact hw W (by rw [h]; exact List.mem_cons_self ..)
  | o :: r, vs, W, h, hw => by
    rcases h with ⟨z, v, q, z1, z2⟩ | ⟨z, v, u, q, z1, z2⟩
    · have wv : wfD v := hw v (by rw [z1]; exact List.mem_cons_self ..)
      exact RA_wf z2 (fun x hx => (List.mem_cons.mp hx).elim (fun y => by rw [y]; exact wv.no) (fun y => hw x (by rw [z1]; exact List.mem_cons_of_mem _ y)))
    · have wv : wfD v := hw v (by rw [z1]; exact List.mem_cons_self ..)
      have wu : wfD u := hw u (by rw [z1]; exact List.mem_cons_of_mem _ (List.mem_cons_self ..))
      have hsg : sgf o = -3 ∨ sgf o = -4 ∨ sgf o = -5 := by unfold sgf; split; omega; split; omega; omega
      exact RA_wf z2 (fun x hx => (List.mem_cons.mp hx).elim (fun y => by rw [y]; exact wu.cmb wv hsg) (fun y => hw x (by rw [z1]; exact List.mem_cons_of_mem _ (List.mem_cons_of_mem _ y))))
section WKD
variable {l : List Int} {s k c : Int}
theorem skQ_nb : ∀ (N : Nat) (k : Int), (len l - k).toNat = N → 0 ≤ k → skQ l k < len l → gt l (skQ l k) ≠ 32 ∧ gt l (skQ l k) ≠ 9 := by
  intro N
  induction N using Nat.strongRecOn with
  | ind N ih =>
    intro k hN k0 hl
    rw [skQ] at hl ⊢
    split at hl
    · rename_i hk
      rw [dif_pos hk]
      exact ih _ (by omega) (k + 1) rfl (by omega) hl
    · rename_i hk
      rw [dif_neg hk]
      exact ⟨fun z => hk ⟨k0, hl, Or.inl z⟩, fun z => hk ⟨k0, hl, Or.inr z⟩⟩
theorem peF_no (h : ¬ chQP (gt l s)) : peF l s = s := by rw [peF, dif_neg (fun z => h z.2.2)]
theorem wdF_no {w : List Int} (h : ¬ chQP (gt l s) ∨ len l ≤ s) (hw : 0 < len w) : wdF l s w = false := by
  have e : peF l s = s := by
    rcases h with z | z
    · exact peF_no z
    · rw [peF, dif_neg (fun y => by omega)]
  unfold wdF
  rw [e, decide_eq_false (by omega)]
  rfl
/-- an operator's word -/
theorem nx_wd {w : List Int} (hs : 0 ≤ s ∧ s ≤ len l) (hw : w = kAND ∨ w = kOR ∨ w = kXOR ∨ w = kNOT) (h : wdF l s w = true) : s < len l ∧ nxQ l s = (opQ w, 0, s + len w) ∧ chQP (gt l s) := by
  have hwl : 0 < len w ∧ opQ w ≠ -1 := by rcases hw with z | z | z | z <;> rw [z] <;> decide
  have hq : chQP (gt l s) ∧ s < len l := by
    by_cases c1 : chQP (gt l s)
    · by_cases c2 : s < len l
      · exact ⟨c1, c2⟩
      · rw [wdF_no (Or.inr (by omega)) hwl.1] at h; cases h
    · rw [wdF_no (Or.inl c1) hwl.1] at h; cases h
  obtain ⟨x1, x2⟩ := wdF_op h hs
  have hpl : peF l s - s = len w := by
    unfold wdF at h
    rw [Bool.and_eq_true, decide_eq_true_iff] at h
    exact h.1
  refine ⟨hq.2, ?_, hq.1⟩
  have hc := hq.1
  unfold chQP at hc
  unfold nxQ
  rw [if_neg (by omega), if_neg (by omega), if_neg (by omega), if_neg (by omega), if_neg (fun z => z hq.1), if_neg (fun z => x2 z.2), x1, if_neg hwl.2, show peF l s = s + len w by omega]
theorem opQ_c {t : List Int} {o : Int} (h : opQ t = o) (ho : o ≠ -1) : (o = 3 ∧ t = kAND) ∨ (o = 1 ∧ t = kOR) ∨ (o = 2 ∧ t = kXOR) ∨ (o = 4 ∧ t = kNOT) := by
  unfold opQ at h
  by_cases c1 : t = kAND
  · rw [if_pos c1] at h; exact Or.inl ⟨h.symm, c1⟩
  rw [if_neg c1] at h
  by_cases c2 : t = kOR
  · rw [if_pos c2] at h; exact Or.inr (Or.inl ⟨h.symm, c2⟩)
  rw [if_neg c2] at h
  by_cases c3 : t = kXOR
  · rw [if_pos c3] at h; exact Or.inr (Or.inr (Or.inl ⟨h.symm, c3⟩))
  rw [if_neg c3] at h
  by_cases c4 : t = kNOT
  · rw [if_pos c4] at h; exact Or.inr (Or.inr (Or.inr ⟨h.symm, c4⟩))
  rw [if_neg c4] at h
  exact absurd h.symm ho
/-- what the next word may be -/
theorem nx_kinds (hs : 0 ≤ s ∧ s ≤ len l) : (s = len l ∧ nxQ l s = (0, 0, s)) ∨ (s < len l ∧ ((gt l s = 40 ∧ nxQ l s = (5, 0, s + 1)) ∨ (gt l s = 41 ∧ nxQ l s = (6, 0, s + 1)) ∨ ((nxQ l s).1 = 7 ∧ gt l s ≠ 40 ∧ gt l s ≠ 41) ∨ (¬ chQP (gt l s) ∧ gt l s ≠ 40 ∧ gt l s ≠ 41 ∧ gt l s ≠ 34 ∧ nxQ l s = (-9, 0, s)) ∨
    (wdF l s kAND = true ∧ nxQ l s = (3, 0, s + 3)) ∨ (wdF l s kOR = true ∧ nxQ l s = (1, 0, s + 2)) ∨ (wdF l s kXOR = true ∧ nxQ l s = (2, 0, s + 3)) ∨ (wdF l s kNOT = true ∧ nxQ l s = (4, 0, s + 3)))) := by
  by_cases c0 : len l ≤ s
  · left; exact ⟨by omega, by unfold nxQ; rw [if_pos c0]⟩
  right
  refine ⟨by omega, ?_⟩
  have hpe := peF_in (l := l) _ s rfl hs.1 hs.2
  by_cases c1 : gt l s = 40
  · left; exact ⟨c1, by unfold nxQ; rw [if_neg c0, if_pos c1]⟩
  by_cases c2 : gt l s = 41
  · right; left; exact ⟨c2, by unfold nxQ; rw [if_neg c0, if_neg c1, if_pos c2]⟩
  by_cases c3 : gt l s = 34
  · right; right; left; exact ⟨by unfold nxQ; rw [if_neg c0, if_neg c1, if_neg c2, if_pos c3], c1, c2⟩
  by_cases c4 : chQP (gt l s)
  rotate_left
  · right; right; right; left; exact ⟨c4, c1, c2, c3, by unfold nxQ; rw [if_neg c0, if_neg c1, if_neg c2, if_neg c3, if_pos c4]⟩
  by_cases c5 : smA l s (peF l s) = true ∧ peF l s < len l ∧ gt l (peF l s) = 58
  · right; right; left; exact ⟨by unfold nxQ; rw [if_neg c0, if_neg c1, if_neg c2, if_neg c3, if_neg (fun z => z c4), if_pos c5], c1, c2⟩
  by_cases c6 : opQ (sub l s (peF l s)) = -1
  · right; right; left; exact ⟨by unfold nxQ; rw [if_neg c0, if_neg c1, if_neg c2, if_neg c3, if_neg (fun z => z c4), if_neg c5, if_pos c6], c1, c2⟩
  have eN : nxQ l s = (opQ (sub l s (peF l s)), 0, peF l s) := by unfold nxQ; rw [if_neg c0, if_neg c1, if_neg c2, if_neg c3, if_neg (fun z => z c4), if_neg c5, if_neg c6]
  have hl := len_sub (l := l) (i := s) (n := peF l s) ⟨hs.1, hpe.1, hpe.2⟩
  have W : ∀ w, sub l s (peF l s) = w → (∀ x, x ∈ w → chSm x) → 0 < len w → wdF l s w = true ∧ peF l s = s + len w := fun w hw hsm hlw => by
    rw [hw] at hl
    have hsA : smA l s (peF l s) = true := by
      unfold smA
      rw [Bool.and_eq_true, decide_eq_true_iff, List.all_eq_true, hw]
      exact ⟨by omega, fun x hx => decide_eq_true (hsm x hx)⟩
    have hn58 : ¬ (peF l s < len l ∧ gt l (peF l s) = 58) := fun z => c5 ⟨hsA, z⟩
    refine ⟨?_, by omega⟩
    unfold wdF
    rw [Bool.and_eq_true, Bool.and_eq_true, decide_eq_true_iff, decide_eq_true_iff]
    refine ⟨by omega, ?_, ?_⟩
    · refine pAt_B.mp ((pAt_sub (l := l) (m := w) (i := s) hs.1 (by omega)).mpr ?_)
      rw [show s + len w = peF l s by omega]; exact hw
    · by_cases z : peF l s = len l
      · exact Or.inl z
      · exact Or.inr (fun y => hn58 ⟨by omega, y⟩)
  rcases opQ_c rfl c6 with ⟨o1, o2⟩ | ⟨o1, o2⟩ | ⟨o1, o2⟩ | ⟨o1, o2⟩
  · obtain ⟨w1, w2⟩ := W _ o2 (by decide) (by decide)
    right; right; right; right; left
    exact ⟨w1, by rw [eN, o1, w2]; rfl⟩
  · obtain ⟨w1, w2⟩ := W _ o2 (by decide) (by decide)
    right; right; right; right; right; left
    exact ⟨w1, by rw [eN, o1, w2]; rfl⟩
  · obtain ⟨w1, w2⟩ := W _ o2 (by decide) (by decide)
    right; right; right; right; right; right; left
    exact ⟨w1, by rw [eN, o1, w2]; rfl⟩
  · obtain ⟨w1, w2⟩ := W _ o2 (by decide) (by decide)
    right; right; right; right; right; right; right
    exact ⟨w1, by rw [eN, o1, w2]; rfl⟩
theorem sgQ_c {x : Int} : sgQ l s x = true ↔ (s < len l ∧ gt l s = x) := by unfold sgQ; exact decide_eq_true_iff
theorem wrW_1 (h : s = len l ∨ gt l s = 40 ∨ gt l s = 41 ∨ gt l s = 34 ∨ chQP (gt l s)) : wrW l s = 1 := by
  unfold wrW
  rcases h with z | z
  · rw [if_pos z]
  · by_cases c : s = len l
    · rw [if_pos c]
    · rw [if_neg c, if_neg (fun y => ?_)]
      rcases z with z | z | z | z
      · exact y.1 z
      · exact y.2.1 z
      · exact y.2.2.1 z
      · exact y.2.2.2 z
/-- where no atom begins -/
theorem atF_out (hs : 0 ≤ s ∧ s ≤ len l) (h : s = len l ∨ gt l s = 41 ∨ wdF l s kAND = true ∨ wdF l s kOR = true ∨ wdF l s kXOR = true) : (atF l s c).1 = (1, s) := by
  have hb : atBad l s = true := by
    unfold atBad
    rw [Bool.or_eq_true, Bool.or_eq_true, Bool.or_eq_true, Bool.or_eq_true, Bool.or_eq_true, decide_eq_true_iff]
    rcases h with z | z | z | z | z
    · exact Or.inl z
    · by_cases y : s = len l
      · exact Or.inl y
      · exact Or.inr (Or.inr (Or.inr (Or.inr (Or.inl (sgQ_c.mpr ⟨by omega, z⟩)))))
    · exact Or.inr (Or.inl z)
    · exact Or.inr (Or.inr (Or.inl z))
    · exact Or.inr (Or.inr (Or.inr (Or.inl z)))
  have hw : wrW l s = 1 := wrW_1 (by
    rcases h with z | z | z | z | z
    · exact Or.inl z
    · exact Or.inr (Or.inr (Or.inl z))
    · exact Or.inr (Or.inr (Or.inr (Or.inr (nx_wd hs (Or.inl rfl) z).2.2)))
    · exact Or.inr (Or.inr (Or.inr (Or.inr (nx_wd hs (Or.inr (Or.inl rfl)) z).2.2)))
    · exact Or.inr (Or.inr (Or.inr (Or.inr (nx_wd hs (Or.inr (Or.inr (Or.inl rfl))) z).2.2))))
  have e : atF l s c = pX (wrW l s) s 6 := if_pos hb
  rw [e, hw]
  rfl
theorem atF_ill (hs : 0 ≤ s ∧ s < len l) (h : ¬ chQP (gt l s) ∧ gt l s ≠ 40 ∧ gt l s ≠ 41 ∧ gt l s ≠ 34) (hb : gt l s ≠ 32 ∧ gt l s ≠ 9) : (atF l s c).1 = (2, s) := by
  have hp := peF_no h.1
  have hwr : wrW l s = 2 := by
    unfold wrW
    rw [if_neg (by omega), if_pos ⟨h.2.1, h.2.2.1, h.2.2.2, h.1⟩]
  by_cases cb : atBad l s = true
  · have e : atF l s c = pX (wrW l s) s 6 := if_pos cb
    rw [e, hwr]
    rfl
  · have hsm : smA l s (peF l s) = false := by rw [hp]; unfold smA; rw [decide_eq_false (by omega)]; rfl
    have eD : atIsD l s = false := by unfold atIsD; rw [hsm]; rfl
    have e1 : atFld l s = 0 := by unfold atFld; rw [if_neg (by rw [eD]; decide)]
    have e2 : atAt l s = s := by unfold atAt; rw [if_neg (by rw [eD]; decide)]
    have e3 : atPh l s = false := by unfold atPh; exact decide_eq_false (fun z => h.2.2.2 z.2)
    have e4 : atLast l s = s := by unfold atLast; rw [if_neg (by rw [e3]; decide)]; exact hp
    have hch : gt l s < 33 ∨ 126 < gt l s ∨ gt l s = 58 := by
      have h1 := h.1
      unfold chQP at h1
      omega
    have e5 : txW l s = 2 := if_pos ⟨hs.2, hch, hb.1, hb.2⟩
    unfold atF
    rw [if_neg cb, e1, e2, if_neg (by decide), if_neg (fun z => by omega), if_neg (fun z => by rw [e3] at z; exact absurd z.1 (by decide)), if_pos ⟨e3, e4⟩, e5]
    rfl
end WKD
