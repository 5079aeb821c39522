/-! the twin: a query is read, whole -/
set_option maxRecDepth 100000
section QPR
variable {τ0 τ : TT} {l : List Int} {as : List Ato} {D vs V : List Den} {ops O : List Int} {Q : TT → Prop} {s k x opn sl : Int} {R : PRes}
theorem nx_skip (hk : 0 ≤ k ∧ k ≤ len l) : (0 ≤ skQ l k ∧ skQ l k ≤ len l) ∧ k ≤ skQ l k := by
  have := skQ_in (l := l) _ k rfl hk.1 hk.2
  omega
theorem prC_1 {g : Int} {r : PRes} : (prC g r).1 = r.1 := rfl
theorem ngR_1 {n : Nat} {U : Den} {k c : Int} : (ngR n U k c).1 = (0, 0) ∧ (ngR n U k c).2.1 = (if n % 2 = 1 then dNo U else U) ∧ (ngR n U k c).2.2.1 = k ∧ (ngR n U k c).2.2.2.1 = c := by
  unfold ngR
  by_cases h : n % 2 = 1
  · rw [if_pos h, if_pos h]; exact ⟨rfl, rfl, rfl, rfl⟩
  · rw [if_neg h, if_neg h]; exact ⟨rfl, rfl, rfl, rfl⟩
theorem atF_40 {v : Ato} {k2 g c : Int} (h : lnW as = 40) (hc : lnW as = c) (e : atF l s c = ((0, 0), dLf v, k2, c + 1, g)) : False := by
  have c40 : c = 40 := by omega
  have e1 : (atF l s c).1.1 = 0 := by rw [e]
  unfold atF at e1
  split at e1
  · have hw : wrW l s = 1 ∨ wrW l s = 2 := by unfold wrW; split; exact Or.inl rfl; split; exact Or.inr rfl; exact Or.inl rfl
    have e1 : wrW l s = 0 := e1
    omega
  split at e1
  · exact absurd e1 (show ¬ (3 : Int) = 0 by decide)
  split at e1
  · exact absurd e1 (show ¬ (5 : Int) = 0 by decide)
  split at e1
  · exact absurd e1 (show ¬ (2 : Int) = 0 by decide)
  split at e1
  · have hw : txW l (atAt l s) = 1 ∨ txW l (atAt l s) = 2 := by unfold txW; split; exact Or.inr rfl; exact Or.inl rfl
    have e1 : txW l (atAt l s) = 0 := e1
    omega
  split at e1
  · exact absurd e1 (show ¬ (4 : Int) = 0 by decide)
  exact absurd e1 (show ¬ (5 : Int) = 0 by decide)
theorem nx9 {o y : Int} (e : nxQ l s = (o, 0, y)) (h : o ≠ -9 ∧ o ≠ 0) : ¬ ((nxQ l s).1 = -9 ∨ (nxQ l s).1 = 0) := fun z => by
  rw [e] at z
  rcases z with z | z
  · exact h.1 z
  · exact h.2 z
/-- an operand -/
theorem st_0 {N : Nat} (h0 : ST0 τ0 l Q N) (h1 : ST1 τ0 l Q N) : ST0 τ0 l Q (N + 1) := by
  intro deep c k n T as D O V τ1 k0 kl hP hc R hR h99 hX hS
  rw [qS_0] at hR
  have hsk := nx_skip (l := l) ⟨k0, kl⟩
  have hidem := skQ_idem (l := l) _ k rfl
  have hnb := skQ_nb (l := l) _ k rfl k0
  generalize hsd : skQ l k = s at *
  have hl := hP.1.2
  -- no operand
  have OUT : ∀ w y : Int, wdF l s kNOT = false → sgQ l s 40 = false → (atF l s c).1 = (w, y) → w ≠ 0 → R.1 = (w, y) := fun w y e1 e2 e3 hw => by
    rw [if_neg (by rw [e1]; decide), if_neg (by rw [e2]; decide), prB_no (by rw [e3]; exact hw)] at hR
    rw [← hR]; exact e3
  have s40 : gt l s ≠ 40 ∨ s = len l → sgQ l s 40 = false := fun z => Bool.eq_false_iff.mpr (fun y => by
    have w := sgQ_c.mp y
    rcases z with z | z
    · exact z w.2
    · omega)
  have BAD : ∀ e : wdF l s kNOT = false, sgQ l s 40 = false → (s = len l ∨ gt l s = 41 ∨ wdF l s kAND = true ∨ wdF l s kOR = true ∨ wdF l s kXOR = true) → ∀ τ', Fr τ0 τ' psS psA → τ'.1 265 = 1 → τ'.1 266 = s → Q τ' := fun e e2 hh τ' hF x1 x2 => by
    have hR' := OUT 1 s e e2 (atF_out hsk.1 hh) (by decide)
    exact hX (by rw [hR']; exact (show (1 : Int) ≠ 0 by decide)) τ' hF (by rw [hR']; exact x1) (by rw [hR']; exact x2)
  have hPr := hP
  obtain ⟨⟨hs1, -⟩, hB, hb, hw⟩ := hP
  have hbr := hb.r (by omega) (by decide)
  have hB' := hB
  obtain ⟨a1, a2, a3, a4, a5, a6, a7, a8, a9⟩ := hB
  have hbd := hb
  obtain ⟨d1, d2, d3, d4, d5⟩ := hb
  have NW : ∀ w w' : List Int, w ≠ w' → wdF l s w = true → (w' = kAND ∨ w' = kOR ∨ w' = kXOR ∨ w' = kNOT) → wdF l s w' = false := fun w w' hne h1 hw' => Bool.eq_false_iff.mpr (fun h2 => hne ((wdF_op h1 hs1).1.symm.trans (wdF_op h2 hs1).1))
  rcases nx_kinds (l := l) hs1 with ⟨z1, z2⟩ | ⟨z1, ⟨z2, z3⟩ | ⟨z2, z3⟩ | ⟨z2, z3, z4⟩ | ⟨z2, z3, z4, z5, z6⟩ | ⟨z2, z3⟩ | ⟨z2, z3⟩ | ⟨z2, z3⟩ | ⟨z2, z3⟩⟩
  · -- the end
    have hno : wdF l s kNOT = false := wdF_no (Or.inr (by omega)) (by decide)
    exact ⟨fun _ => end_bad hPr z1 (Or.inl rfl) (BAD hno (s40 (Or.inr z1)) (Or.inl z1)), fun _ y => absurd (by rw [z2]) y⟩
  · -- a bracket
    refine ⟨fun y => absurd y (nx9 z3 (by decide)), fun _ _ K hKK => ?_⟩
    have hno : wdF l s kNOT = false := wdF_no (Or.inl (fun y => by rw [z2] at y; exact absurd y (by decide))) (by decide)
    have hsg : sgQ l s 40 = true := sgQ_c.mpr ⟨z1, z2⟩
    rw [if_neg (by rw [hno]; decide), if_pos hsg] at hR
    generalize hR1 : qS l N 1 deep T 0 s c = R1 at hR
    have h991 : R1.1.1 ≠ 99 := prB_n9 (by rw [hR]; exact h99)
    refine h1 deep c s T as D _ V τ1 hsg hsk.1.1 hidem hPr hc R1 hR1 h991 (by rw [← hR] at hX; exact hX.in) (fun hok τ2 as2 D2 W hP2 g1 g2 g3 g4 => ?_) K hKK
    rw [prB_ok hok] at hR
    have hn := ngR_1 (n := n) (U := R1.2.1) (k := R1.2.2.1) (c := R1.2.2.2.1)
    have e1 : R.1 = (0, 0) := by rw [← hR]; exact hn.1
    have e2 : R.2.1 = if n % 2 = 1 then dNo R1.2.1 else R1.2.1 := by rw [← hR]; exact hn.2.1
    have e3 : R.2.2.1 = R1.2.2.1 := by rw [← hR]; exact hn.2.2.1
    have e4 : R.2.2.2.1 = R1.2.2.2.1 := by rw [← hR]; exact hn.2.2.2
    have wW : wfD W := hP2.2.1.2.2.2.2.2.2.2.2 W (List.mem_cons_self ..)
    refine hS (by rw [e1]) τ2 as2 D2 n W (by rw [e3]; exact hP2) (by rw [e4]; exact g1) (by rw [e2]; exact ntD_eq g2 wW g3) ?_ (by rw [e3]; exact g4)
    rw [e2]
    split
    · exact g3.no
    · exact g3
  · refine ⟨fun y => absurd y (nx9 z3 (by decide)), fun _ _ K hKK => ?_⟩
    have hno : wdF l s kNOT = false := wdF_no (Or.inl (fun y => by rw [z2] at y; exact absurd y (by decide))) (by decide)
    exact op_bad hPr (Or.inr (Or.inr (Or.inr (by rw [z3])))) (BAD hno (s40 (Or.inl (by omega))) (Or.inr (Or.inl z2))) K hKK
  · -- an atom
    refine ⟨fun y => by rcases y with y | y <;> omega, fun _ _ K hKK => ?_⟩
    have hno : wdF l s kNOT = false := Bool.eq_false_iff.mpr (fun y => by
      have := (nx_wd hs1 (Or.inr (Or.inr (Or.inr rfl))) y).2.1
      have t : (nxQ l s).1 = 4 := by rw [this]; exact (show opQ kNOT = 4 by decide)
      omega)
    have hsg := s40 (Or.inl z3)
    rw [if_neg (by rw [hno]; decide), if_neg (by rw [hsg]; decide)] at hR
    rcases hw with ⟨b1, b2, b3, b4, b5, b6⟩ | ⟨b1, -⟩
    rotate_left
    · omega
    refine s_qOperand ?_
    rw [b3]
    refine fun r1 => ⟨fun c5 => ⟨fun c20 => ⟨fun c64 => absurd z2 c64, fun c64 => ?_⟩, fun c20 => by omega⟩, fun c5 => by omega⟩
    refine t_qReadAtom a2 ⟨hs1.1, z1⟩ z2 b4 b5 (b6 z2) b2 a3 a7 (by omega) a4 a5 ⟨by omega, by omega⟩ (fun τ2 hF2 g0 g1 g2 => hKK _ _ (Or.inr rfl) ?_) (fun τ2 v k2 g e hF2 g1 g2 g3 g4 g5 g6 g7 => hKK _ _ (Or.inr rfl) ?_)
    · rw [hc] at g0 g1 g2
      rw [prB_no g0] at hR
      rw [← hR] at hX
      exact flt100 (by rw [g1]; exact g0) (hX g0 τ2 (a1.tr hF2) g1 g2) (Or.inr rfl)
    · rw [hc] at e
      have hn := ngR_1 (n := n) (U := dLf v) (k := k2) (c := c + 1)
      rw [e, prB_ok rfl] at hR
      have e1 : R.1 = (0, 0) := by rw [← hR]; exact hn.1
      have e2 : R.2.1 = if n % 2 = 1 then dNo (dLf v) else dLf v := by rw [← hR]; exact hn.2.1
      have e3 : R.2.2.1 = k2 := by rw [← hR]; exact hn.2.2.1
      have e4 : R.2.2.2.1 = c + 1 := by rw [← hR]; exact hn.2.2.2
      have las : lnW (as ++ [v]) = lnW as + 1 := by rw [lnW_a]; rfl
      have lD1 : lnW (D ++ [dLf v]) = lnW D + 1 := by rw [lnW_a]; rfl
      have h40 : lnW as < 40 := by
        refine Classical.byContradiction fun y => ?_
        have y40 : lnW as = 40 := by omega
        exact atF_40 y40 hc e
      have hB2 : PSB τ0 l τ2 (as ++ [v]) (D ++ [dLf v]) (List.replicate n 4 ++ O) (dLf v :: V) deep := ⟨a1.tr hF2, a2.fr (hF2.s 263) (hF2.a 178), g4, g5, g6, a6.fr hF2, by rw [g3, las], (hF2.s 293).trans a8, fun d hd => (List.mem_cons.mp hd).elim (fun q => by rw [q]; exact wfD.lf) (fun q => a9 d q)⟩
      have hbd2 : BDQ k2 (as ++ [v]) (D ++ [dLf v]) (List.replicate n 4 ++ O) (dLf v :: V) deep 0 := ⟨by rw [las, lD1]; omega, by rw [las, lnW_c]; omega, by rw [las]; omega, d4, d5⟩
      refine nx100 hl hB2 g1 g2 ⟨by omega, g7.2⟩ hbd2 (Or.inr rfl) (fun τ3 hP3 => hS (by rw [e1]) τ3 (as ++ [v]) (D ++ [dLf v]) n (dLf v) (by rw [e3]; exact hP3) (by rw [e4, las, hc]) (by rw [e2]; exact ntD_eq eqD.rf wfD.lf wfD.lf) ?_ (by rw [e3]; exact ⟨by omega, g7.2⟩))
      rw [e2]
      split
      · exact wfD.lf.no
      · exact wfD.lf
  · -- nothing that there is
    have hno : wdF l s kNOT = false := wdF_no (Or.inl z2) (by decide)
    have hR' := OUT 2 s hno (s40 (Or.inl z3)) (atF_ill ⟨hs1.1, z1⟩ ⟨z2, z3, z4, z5⟩ (hnb z1)) (by decide)
    refine ⟨fun _ => ?_, fun y => absurd (by rw [z6]) y⟩
    rw [WRDQ, z6] at hw
    rcases hw with ⟨b1, -⟩ | ⟨b1, b2, b3⟩
    · exact absurd rfl b1
    · exact flt71 (by omega) (hX (by rw [hR']; exact (show (2 : Int) ≠ 0 by decide)) τ1 a1 (by rw [hR']; exact b2) (by rw [hR']; exact b3)) (Or.inl rfl)
  · refine ⟨fun y => absurd y (nx9 z3 (by decide)), fun _ _ K hKK => ?_⟩
    have q := (nx_wd hs1 (Or.inl rfl) z2).2.2
    exact op_bad hPr (Or.inr (Or.inr (Or.inl (by rw [z3])))) (BAD (NW _ _ (by decide) z2 (Or.inr (Or.inr (Or.inr rfl)))) (s40 (Or.inl (fun y => by rw [y] at q; exact absurd q (by decide)))) (Or.inr (Or.inr (Or.inl z2)))) K hKK
  · refine ⟨fun y => absurd y (nx9 z3 (by decide)), fun _ _ K hKK => ?_⟩
    have q := (nx_wd hs1 (Or.inr (Or.inl rfl)) z2).2.2
    exact op_bad hPr (Or.inl (by rw [z3])) (BAD (NW _ _ (by decide) z2 (Or.inr (Or.inr (Or.inr rfl)))) (s40 (Or.inl (fun y => by rw [y] at q; exact absurd q (by decide)))) (Or.inr (Or.inr (Or.inr (Or.inl z2))))) K hKK
  · refine ⟨fun y => absurd y (nx9 z3 (by decide)), fun _ _ K hKK => ?_⟩
    have q := (nx_wd hs1 (Or.inr (Or.inr (Or.inl rfl))) z2).2.2
    exact op_bad hPr (Or.inr (Or.inl (by rw [z3]))) (BAD (NW _ _ (by decide) z2 (Or.inr (Or.inr (Or.inr rfl)))) (s40 (Or.inl (fun y => by rw [y] at q; exact absurd q (by decide)))) (Or.inr (Or.inr (Or.inr (Or.inr z2))))) K hKK
  · -- not
    refine ⟨fun y => absurd y (nx9 z3 (by decide)), fun _ _ K hKK => ?_⟩
    rw [if_pos z2] at hR
    have q3 : s + 3 ≤ len l := by
      have hpe := peF_in (l := l) _ s rfl hs1.1 hs1.2
      unfold wdF at z2
      rw [Bool.and_eq_true, decide_eq_true_iff] at z2
      have z2' : peF l s - s = 3 := z2.1
      omega
    rw [WRDQ, z3] at hw
    rcases hw with ⟨b1, b2, b3, b4, b5, b6⟩ | ⟨b1, -⟩
    rotate_left
    · exact absurd b1 (show ¬ (4 : Int) = -9 by decide)
    have b3 : τ1.1 270 = 4 := b3
    have b5 : τ1.1 264 = s + 3 := b5
    refine s_qOperand ?_
    rw [b3]
    refine fun r1 => ⟨fun c5 => absurd rfl c5, fun _ => t_qHold a6 (by omega) (by decide) (fun τ2 hF2 hW2 => hKK _ _ (Or.inl rfl) ?_)⟩
    have hB2 : PSB τ0 l τ2 as D (4 :: (List.replicate n 4 ++ O)) V deep := ⟨a1.tr hF2, a2.fr (hF2.s 263) (hF2.a 178), a3.fr hF2, a4.fr hF2, a5.fr hF2, hW2, (hF2.s 277).trans a7, (hF2.s 293).trans a8, a9⟩
    have hbd2 : BDQ (s + 3) as D (4 :: (List.replicate n 4 ++ O)) V deep 3 := ⟨by rw [lnW_c]; omega, d2, d3, d4, d5⟩
    refine nx100 hl hB2 ((hF2.s 264).trans b5) ((hF2.s 265).trans b2) ⟨by omega, q3⟩ hbd2 (Or.inl rfl) (fun τ3 hP3 => h0_71 hP3 ?_)
    have hP3' : PSQ τ0 l τ3 (skQ l (s + 3)) as D (List.replicate (n + 1) 4 ++ O) V deep 3 := hP3
    exact h0 deep c (s + 3) (n + 1) T as D O V τ3 (by omega) q3 hP3' hc R hR h99 hX hS
end QPR
