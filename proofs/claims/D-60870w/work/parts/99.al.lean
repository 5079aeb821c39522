/-! the twin: a query is read: levels; all of it -/
set_option maxRecDepth 100000
section QLV
variable {τ0 τ : TT} {l : List Int} {as : List Ato} {D vs V : List Den} {ops O : List Int} {Q : TT → Prop} {s k x opn sl : Int} {R : PRes}
/-- behind an operand: the loop, or the end of the level -/
theorem lv_after {N : Nat} (hL : STL τ0 l Q N) {m f deep c2 g g2 : Int} {U W : Den} {as2 : List Ato} {D2 : List Den} {P : List Int} {τ2 : TT} {s2 : Int} (hlv : lvQ m f) (hlow : lowO f O) (hP : PSQ τ0 l τ2 s2 as2 D2 (P ++ O) (vs ++ V) deep 0) (hs2 : skQ l s2 = s2) (hRA : RA P vs W) (hPf : ∀ o, o ∈ P → f ≤ o) (hE : eqD W U) (hwU : wfD U) (hgi : gi l m s2) (hc : lnW as2 = c2)
    (hR : prC g (if goF l s2 m = true then prC g2 (qS l N (m + 10) deep U 1 s2 c2) else ((0, 0), U, s2, c2, 0)) = R) (h99 : R.1.1 ≠ 99) (hX : HXq τ0 Q R) (hK : KLV τ0 l Q m f deep O V R) : W_qReadAll_71 1 τ2 Q := by
  have hs := hP.1.1
  by_cases hg : goF l s2 m = true
  · rw [if_pos hg] at hR
    subst hR
    refine hL m f hlv deep c2 s2 1 U as2 D2 P vs W O V τ2 hs.1 hs.2 hlow (by rw [hs2]; exact hP) hRA hPf hE hwU (by rw [hs2]; exact hgi) hc (qS l N (m + 10) deep U 1 s2 c2) rfl h99 hX hK
  · rw [if_neg hg] at hR
    subst hR
    have hg' : goF l s2 m = false := Bool.eq_false_iff.mpr hg
    refine hK rfl τ2 as2 D2 P vs W hP hc hRA hPf hE hwU hs2 ?_ hs
    rcases hlv with ⟨h1, -⟩ | ⟨h1, -⟩ | ⟨h1, -⟩
    · rw [h1] at hg'
      exact ⟨hg', fun z => absurd h1 z, fun z => by omega⟩
    · rw [h1] at hg'
      exact ⟨hgi.1 (by omega), fun _ => hg', fun z => by omega⟩
    · rw [h1] at hg'
      exact ⟨hgi.1 (by omega), fun _ => hgi.2 h1, fun _ => hg'⟩
theorem st_m {N : Nat} (h0 : ST0 τ0 l Q N) (hm : STm τ0 l Q N) (hL : STL τ0 l Q N) : STm τ0 l Q (N + 1) := by
  intro m f hlv deep c k n T as D O V τ1 k0 kl hlow hP hc R hR h99 hX hK
  have hm0 : m < 0 := by rcases hlv with ⟨z, -⟩ | ⟨z, -⟩ | ⟨z, -⟩ <;> omega
  rw [qS_m hm0] at hR
  have hX' := hX
  rw [← hR] at hX'
  rcases hlv with ⟨h1, h2⟩ | ⟨h1, h2⟩ | ⟨h1, h2⟩
  · subst h1 h2
    rw [if_pos rfl] at hR hX'
    generalize hR1 : qS l N 0 deep T 0 k c = R1 at hR hX'
    have h991 : R1.1.1 ≠ 99 := prB_n9 (by rw [hR]; exact h99)
    refine h0 deep c k 0 T as D O V τ1 k0 kl hP hc R1 hR1 h991 hX'.in (fun hok τ2 as2 D2 j W hP2 g1 g2 g3 g4 => ?_)
    rw [prB_ok hok] at hR
    exact lv_after (vs := [W]) hL (Or.inl ⟨rfl, rfl⟩) hlow hP2 (skQ_idem (l := l) _ _ rfl) (RA_ntD j W) (fun o ho => by rw [List.eq_of_mem_replicate ho]; decide) g2 g3 ⟨fun z => absurd rfl z, fun z => absurd z (by decide)⟩ g1 hR h99 hX hK
  · subst h1 h2
    rw [if_neg (by decide), show nxS (-5) = -3 from rfl] at hR hX'
    generalize hR1 : qS l N (-3) deep T 0 k c = R1 at hR hX'
    have h991 : R1.1.1 ≠ 99 := prB_n9 (by rw [hR]; exact h99)
    have hlow3 : lowO 3 O := by
      cases O with
      | nil => trivial
      | cons o r => have z : o = 5 ∨ o < 2 := hlow; show o = 5 ∨ o < 3; omega
    refine hm (-3) 3 (Or.inl ⟨rfl, rfl⟩) deep c k 0 T as D O V τ1 k0 kl hlow3 hP hc R1 hR1 h991 hX'.in (fun hok τ2 as2 D2 P2 vs2 W hP2 g1 g2 g3 g4 g5 g6 g7 g8 => ?_)
    rw [prB_ok hok, g6] at hR
    exact lv_after hL (Or.inr (Or.inl ⟨rfl, rfl⟩)) hlow hP2 g6 g2 (fun o ho => by have := g3 o ho; omega) g4 g5 ⟨fun _ => g7.1, fun z => absurd z (by decide)⟩ g1 hR h99 hX hK
  · subst h1 h2
    rw [if_neg (by decide), show nxS (-4) = -5 from rfl] at hR hX'
    generalize hR1 : qS l N (-5) deep T 0 k c = R1 at hR hX'
    have h991 : R1.1.1 ≠ 99 := prB_n9 (by rw [hR]; exact h99)
    have hlow2 : lowO 2 O := by
      cases O with
      | nil => trivial
      | cons o r => have z : o = 5 ∨ o < 1 := hlow; show o = 5 ∨ o < 2; omega
    refine hm (-5) 2 (Or.inr (Or.inl ⟨rfl, rfl⟩)) deep c k 0 T as D O V τ1 k0 kl hlow2 hP hc R1 hR1 h991 hX'.in (fun hok τ2 as2 D2 P2 vs2 W hP2 g1 g2 g3 g4 g5 g6 g7 g8 => ?_)
    rw [prB_ok hok, g6] at hR
    exact lv_after hL (Or.inr (Or.inr ⟨rfl, rfl⟩)) hlow hP2 g6 g2 (fun o ho => by have := g3 o ho; omega) g4 g5 ⟨fun _ => g7.1, fun _ => g7.2.1 (by decide)⟩ g1 hR h99 hX hK
theorem st_L {N : Nat} (h0 : ST0 τ0 l Q N) (hm : STm τ0 l Q N) (hL : STL τ0 l Q N) : STL τ0 l Q (N + 1) := by
  intro m f hlv deep c k n T as D P vs W O V τ1 k0 kl hlow hP hRA hPf hE hwT hgi hc R hR h99 hX hK
  have hm0 : m < 0 ∧ -5 ≤ m := by rcases hlv with ⟨z, -⟩ | ⟨z, -⟩ | ⟨z, -⟩ <;> omega
  have hf : f = 1 ∨ f = 2 ∨ f = 3 := by rcases hlv with ⟨-, z⟩ | ⟨-, z⟩ | ⟨-, z⟩ <;> omega
  have hsgf : sgf f = m := by rcases hlv with ⟨z, z2⟩ | ⟨z, z2⟩ | ⟨z, z2⟩ <;> rw [z, z2] <;> rfl
  have hm3 : m = -3 ∨ m = -4 ∨ m = -5 := by rcases hlv with ⟨z, -⟩ | ⟨z, -⟩ | ⟨z, -⟩ <;> omega
  have hsk := nx_skip (l := l) ⟨k0, kl⟩
  have hidem := skQ_idem (l := l) _ k rfl
  have hnb := skQ_nb (l := l) _ k rfl k0
  rw [qS_L (show 1 < m + 10 by omega), show m + 10 - 10 = m by omega] at hR
  generalize hsd : skQ l k = s at *
  have hl := hP.1.2
  by_cases hg : goF l s m = true
  rotate_left
  · rw [if_neg hg] at hR
    subst hR
    have hg' : goF l s m = false := Bool.eq_false_iff.mpr hg
    refine hK rfl τ1 as D P vs W hP hc hRA hPf hE hwT hidem ?_ hsk.1
    rcases hlv with ⟨h1, -⟩ | ⟨h1, -⟩ | ⟨h1, -⟩
    · rw [h1] at hg'
      exact ⟨hg', fun z => absurd h1 z, fun z => by omega⟩
    · rw [h1] at hg'
      exact ⟨hgi.1 (by omega), fun _ => hg', fun z => by omega⟩
    · rw [h1] at hg'
      exact ⟨hgi.1 (by omega), fun _ => hgi.2 h1, fun _ => hg'⟩
  rw [if_pos hg] at hR
  have hPr := hP
  obtain ⟨⟨hs1, -⟩, hB, hb, hw⟩ := hP
  have hbr := hb.r (by omega) (by decide)
  obtain ⟨a1, a2, a3, a4, a5, a6, a7, a8, a9⟩ := hB
  obtain ⟨d1, d2, d3, d4, d5⟩ := hb
  have wW : wfD W := RA_wf hRA (fun d hd => a9 d (List.mem_append_left _ hd))
  have hvl : 1 ≤ lnW vs := by
    rcases Int.lt_or_le 0 (lnW vs) with q | q
    · omega
    · have : vs = [] := List.eq_nil_of_length_eq_zero (by have := lnW_nn (l := vs); unfold lnW at *; omega)
      rw [this] at hRA
      cases P with
      | nil => exact absurd hRA (by intro q; cases q)
      | cons o r => rcases hRA with ⟨-, v, q, z, -⟩ | ⟨-, v, u, q, z, -⟩ <;> cases z
  rw [lnW_a] at d1 d2
  -- the operand behind the operator
  have INNER : ∀ (τ2 : TT) (k' : Int) (D2 : List Den), 0 ≤ k' → k' ≤ len l → k' = opK l m s → PSQ τ0 l τ2 (skQ l k') as D2 (f :: O) (W :: V) deep 3 → H0q l τ2 (skQ l k') Q := fun τ2 k' D2 k0' kl' hk' hP2 => by
    rw [← hk'] at hR
    have hX' := hX
    rw [← hR] at hX'
    have LOOP : ∀ (R1 : PRes), R1.1.1 = 0 → prC R1.2.2.2.2 (prC (adK 0 (n + 1) - adK 0 n) (qS l N (m + 10) deep (cmb m T R1.2.1) (n + 1) R1.2.2.1 R1.2.2.2.1)) = R → ∀ (τ3 : TT) (as3 : List Ato) (D3 : List Den) (P2 : List Int) (vs2 : List Den) (W2 : Den), PSQ τ0 l τ3 (skQ l R1.2.2.1) as3 D3 (P2 ++ f :: O) (vs2 ++ W :: V) deep 0 → lnW as3 = R1.2.2.2.1 → RA P2 vs2 W2 → (∀ o, o ∈ P2 → f ≤ o) → eqD W2 R1.2.1 → wfD R1.2.1 → gi l m (skQ l R1.2.2.1) → (0 ≤ R1.2.2.1 ∧ R1.2.2.1 ≤ len l) → W_qReadAll_71 1 τ3 Q := fun R1 hok hRe τ3 as3 D3 P2 vs2 W2 hP3 g1 g2 g3 g4 g5 g6 g7 => by
      subst hRe
      have wW2 : wfD W2 := RA_wf g2 (fun d hd => hP3.2.1.2.2.2.2.2.2.2.2 d (List.mem_append_left _ hd))
      have hRA3 := RA_app (W := W) hf g2
      rw [hsgf] at hRA3
      refine hL m f hlv deep R1.2.2.2.1 R1.2.2.1 (n + 1) (cmb m T R1.2.1) as3 D3 (P2 ++ [f]) (vs2 ++ [W]) (cmb m W W2) O V τ3 g7.1 g7.2 hlow ?_ hRA3 (fun o ho => ?_) (eqD.cm hE g4 wW wW2 hwT g5 hm3) (hwT.cmb g5 hm3) g6 g1 _ rfl h99 hX hK
      · rw [List.append_assoc, List.append_assoc]; exact hP3
      · rcases List.mem_append.mp ho with z | z
        · exact g3 o z
        · rw [List.mem_singleton.mp z]; exact Int.le_refl _
    rcases hlv with ⟨h1, h2⟩ | ⟨h1, h2⟩ | ⟨h1, h2⟩
    · subst h1 h2
      rw [if_pos rfl] at hR hX'
      generalize hR1 : qS l N 0 deep T 0 k' c = R1 at hR hX'
      have h991 : R1.1.1 ≠ 99 := prB_n9 (by rw [hR]; exact h99)
      refine h0 deep c k' 0 T as D2 (3 :: O) (W :: V) τ2 k0' kl' hP2 hc R1 hR1 h991 hX'.in (fun hok τ3 as3 D3 j W2 hP3 g1 g2 g3 g4 => ?_)
      rw [prB_ok hok] at hR
      exact LOOP R1 hok hR τ3 as3 D3 (List.replicate j 4) [W2] (ntD j W2) hP3 g1 (RA_ntD j W2) (fun o ho => by rw [List.eq_of_mem_replicate ho]; decide) g2 g3 ⟨fun z => absurd rfl z, fun z => absurd z (by decide)⟩ g4
    · subst h1 h2
      rw [if_neg (by decide), show nxS (-5) = -3 from rfl] at hR hX'
      generalize hR1 : qS l N (-3) deep T 0 k' c = R1 at hR hX'
      have h991 : R1.1.1 ≠ 99 := prB_n9 (by rw [hR]; exact h99)
      refine hm (-3) 3 (Or.inl ⟨rfl, rfl⟩) deep c k' 0 T as D2 (2 :: O) (W :: V) τ2 k0' kl' (Or.inr (by decide)) hP2 hc R1 hR1 h991 hX'.in (fun hok τ3 as3 D3 P2 vs2 W2 hP3 g1 g2 g3 g4 g5 g6 g7 g8 => ?_)
      rw [prB_ok hok] at hR
      exact LOOP R1 hok hR τ3 as3 D3 P2 vs2 W2 (by rw [g6]; exact hP3) g1 g2 (fun o ho => by have := g3 o ho; omega) g4 g5 (by rw [g6]; exact ⟨fun _ => g7.1, fun z => absurd z (by decide)⟩) g8
    · subst h1 h2
      rw [if_neg (by decide), show nxS (-4) = -5 from rfl] at hR hX'
      generalize hR1 : qS l N (-5) deep T 0 k' c = R1 at hR hX'
      have h991 : R1.1.1 ≠ 99 := prB_n9 (by rw [hR]; exact h99)
      refine hm (-5) 2 (Or.inr (Or.inl ⟨rfl, rfl⟩)) deep c k' 0 T as D2 (1 :: O) (W :: V) τ2 k0' kl' (Or.inr (by decide)) hP2 hc R1 hR1 h991 hX'.in (fun hok τ3 as3 D3 P2 vs2 W2 hP3 g1 g2 g3 g4 g5 g6 g7 g8 => ?_)
      rw [prB_ok hok] at hR
      exact LOOP R1 hok hR τ3 as3 D3 P2 vs2 W2 (by rw [g6]; exact hP3) g1 g2 (fun o ho => by have := g3 o ho; omega) g4 g5 (by rw [g6]; exact ⟨fun _ => g7.1, fun _ => g7.2.1 (by decide)⟩) g8
  -- the operator is held
  have BTW : ∀ (K : TT → Prop), (∀ (τ2 : TT) (D2 : List Den), Fr τ1 τ2 [286, 291, 292] [188, 189, 190, 191, 192] → PSB τ0 l τ2 as D2 (f :: O) (W :: V) deep → (∀ s', s ≤ s' → BDQ s' as D2 (f :: O) (W :: V) deep 3) → K τ2) → w_qBetween f τ1 K := fun K hgo => by
    refine s_qBetween (s_qReduceTo (t_qReduceTo0 (τ := τ1) (O := O) (V := V) (f := f) hlow (by omega) P vs D τ1 hRA hPf a4 a5 a6 a9 (by omega) (by rw [lnW_a]; omega) Fr.rf (fun τ2 D' hF2 x1 x2 x3 x4 x5 => ?_)))
    have l0 := lnW_nn (l := O)
    have lP := lnW_nn (l := P)
    have hbr1 := hbr.1
    rw [lnW_a] at hbr1
    refine t_qHold x5 (by omega) (by omega) (fun τ3 hF3 hW3 => hgo τ3 (D ++ D') ?_ ?_ (fun s' hs' => ⟨?_, ?_, d3, d4, d5⟩))
    · exact (show Fr τ1 τ2 [286, 291, 292] [188, 189, 190, 191, 192] from Fr.rf.tr hF2).tr hF3
    · exact ⟨(a1.tr hF2).tr hF3, a2.fr ((hF3.s 263).trans (hF2.s 263)) ((hF3.a 178).trans (hF2.a 178)), (a3.fr hF2).fr hF3, x3.fr hF3, x4.fr hF3, hW3, (hF3.s 277).trans ((hF2.s 277).trans a7), (hF3.s 293).trans ((hF2.s 293).trans a8), fun d hd => (List.mem_cons.mp hd).elim (fun q => by rw [q]; exact x2) (fun q => a9 d (List.mem_append_right _ q))⟩
    · rw [lnW_a, lnW_c]; omega
    · rw [lnW_c]; omega
  -- an operator's word
  have OPW : ∀ (wl : Int), nxQ l s = (f, 0, s + wl) → opK l m s = s + wl → s + wl ≤ len l → 0 ≤ wl → W_qReadAll_71 1 τ1 Q := fun wl e1 e2 e3 e4 => by
    rw [WRDQ, e1] at hw
    rcases hw with ⟨b1, b2, b3, b4, b5, b6⟩ | ⟨b1, -⟩
    rotate_left
    · have b1 : f = -9 := b1
      omega
    have b3 : τ1.1 270 = f := b3
    have b5 : τ1.1 264 = s + wl := b5
    have GO : w_qBetween f τ1 (fun τ29 => ∀ (_ : (0 : Int) = 0 ∨ (0 : Int) = 1), W_qReadAll_100 0 τ29 Q) := BTW _ (fun τ2 D2 hF2 hB2 hb2 _ => nx100 hl hB2 ((hF2.s 264).trans b5) ((hF2.s 265).trans b2) ⟨by omega, e3⟩ (hb2 (s + wl) (by omega)) (Or.inl rfl) (fun τ3 hP3 => h0_71 hP3 (INNER τ3 (s + wl) D2 (by omega) e3 e2.symm hP3)))
    refine s_qReadAll_71 (fun r72 => ⟨fun y => absurd b2 y, fun _ => ?_⟩)
    rw [b3]
    refine fun r79 => ⟨fun y => by omega, fun _ => ⟨by decide, fun y => absurd y (by decide), fun _ => s_qBehind ?_⟩⟩
    have W24 : W_qBehind_24 τ1 (fun x90 τ90 => ∀ (_ : x90 = 0 ∨ x90 = 1), W_qReadAll_100 x90 τ90 Q) := by
      refine s_qBehind_24 ?_
      rw [b3]
      exact fun r26 => GO
    rw [b3]
    refine fun r1 => ⟨fun _ => W24, fun y1 => ⟨fun _ => W24, fun y2 => ⟨fun y3 => absurd hf (by omega), fun _ => W24⟩⟩⟩
  rcases hlv with ⟨h1, h2⟩ | ⟨h1, h2⟩ | ⟨h1, h2⟩
  · subst h1 h2
    have hg3 : (decide (s < len l) && (!sgQ l s 41 && (!wdF l s kOR && !wdF l s kXOR))) = true := by
      unfold goF at hg
      rw [if_neg (by decide), if_neg (by decide)] at hg
      exact hg
    rw [Bool.and_eq_true, Bool.and_eq_true, Bool.and_eq_true, decide_eq_true_iff] at hg3
    obtain ⟨q1, q2, q3, q4⟩ := hg3
    have eK : opK l (-3) s = if wdF l s kAND = true then s + 3 else s := rfl
    -- and, unsaid
    have IMP : wdF l s kAND = false → (nxQ l s).1 ≠ -9 → (nxQ l s).1 ≠ 0 → (nxQ l s).1 ≠ 3 → (nxQ l s).1 ≠ 1 → (nxQ l s).1 ≠ 2 → (nxQ l s).1 ≠ 6 → W_qReadAll_71 1 τ1 Q := fun n0 n1 n2 n3 n4 n5 n6 => by
      rw [if_neg (by rw [n0]; decide)] at eK
      rcases hw with ⟨b1, b2, b3, b4, b5, b6⟩ | ⟨b1, -⟩
      rotate_left
      · exact absurd b1 n1
      refine s_qReadAll_71 (fun r72 => ⟨fun y => absurd b2 y, fun _ => ?_⟩)
      rw [b3]
      refine fun r79 => ⟨fun y => absurd y n2, fun _ => ⟨by decide, fun y => absurd y (by decide), fun _ => s_qBehind ?_⟩⟩
      rw [b3]
      refine fun r1 => ⟨fun y => absurd y n3, fun _ => ⟨fun y => absurd y n4, fun _ => ⟨fun _ => ⟨fun _ => ?_, fun y => absurd y n6⟩, fun y => absurd y n5⟩⟩⟩
      refine BTW _ (fun τ2 D2 hF2 hB2 hb2 => ?_)
      have hP2 : PSQ τ0 l τ2 (skQ l s) as D2 (3 :: O) (W :: V) deep 3 := by
        rw [hidem]
        exact ⟨⟨hs1, hl⟩, hB2, hb2 s (Int.le_refl _), Or.inl ⟨b1, (hF2.s 265).trans b2, (hF2.s 270).trans b3, (hF2.s 271).trans b4, (hF2.s 264).trans b5, fun y => (hF2.s 272).trans (b6 y)⟩⟩
      have z := INNER τ2 s D2 hs1.1 hs1.2 eK.symm hP2
      rw [hidem] at z
      exact z.2 n1 n2 _ (fun x τ' _ h _ _ => h)
    rcases nx_kinds (l := l) hs1 with ⟨z1, z2⟩ | ⟨z1, ⟨z2, z3⟩ | ⟨z2, z3⟩ | ⟨z2, z3, z4⟩ | ⟨z2, z3, z4, z5, z6⟩ | ⟨z2, z3⟩ | ⟨z2, z3⟩ | ⟨z2, z3⟩ | ⟨z2, z3⟩⟩
    · omega
    · have n0 : wdF l s kAND = false := wdF_no (Or.inl (fun y => by rw [z2] at y; exact absurd y (by decide))) (by decide)
      have e : (nxQ l s).1 = 5 := by rw [z3]
      exact IMP n0 (by omega) (by omega) (by omega) (by omega) (by omega) (by omega)
    · rw [sgQ_c.mpr ⟨z1, z2⟩] at q2
      exact absurd q2 (by decide)
    · have n0 : wdF l s kAND = false := Bool.eq_false_iff.mpr (fun y => by
        have := (nx_wd hs1 (Or.inl rfl) y).2.1
        have t : (nxQ l s).1 = 3 := by rw [this]; exact (show opQ kAND = 3 by decide)
        omega)
      exact IMP n0 (by omega) (by omega) (by omega) (by omega) (by omega) (by omega)
    · -- illegal
      have hno : wdF l s kNOT = false := wdF_no (Or.inl z2) (by decide)
      have n0 : wdF l s kAND = false := wdF_no (Or.inl z2) (by decide)
      rw [if_neg (by rw [n0]; decide)] at eK
      have hsg : sgQ l s 40 = false := Bool.eq_false_iff.mpr (fun y => z3 (sgQ_c.mp y).2)
      rw [WRDQ, z6] at hw
      rcases hw with ⟨b1, -⟩ | ⟨b1, b2, b3⟩
      · exact absurd rfl b1
      rw [if_pos rfl, eK] at hR
      have hN : 0 < N := by
        rcases Nat.eq_zero_or_pos N with y | y
        · exfalso
          subst y
          have e9 : qS l 0 0 deep T 0 s c = pX 99 0 0 := by rw [qS]
          rw [e9, prB_no (show ¬ (99 : Int) = 0 by decide)] at hR
          exact h99 (by rw [← hR]; rfl)
        · exact y
      obtain ⟨N', rfl⟩ : ∃ N', N = N' + 1 := ⟨N - 1, by omega⟩
      have hat := atF_ill (c := c) ⟨hs1.1, z1⟩ ⟨z2, z3, z4, z5⟩ (hnb z1)
      have e1 : (qS l (N' + 1) 0 deep T 0 s c).1 = (2, s) := by
        rw [qS_0, hidem, if_neg (by rw [hno]; decide), if_neg (by rw [hsg]; decide), prB_no (by rw [hat]; exact (show ¬ (2 : Int) = 0 by decide))]
        exact hat
      have hR' : R.1 = (2, s) := by
        rw [prB_no (by rw [e1]; exact (show ¬ (2 : Int) = 0 by decide))] at hR
        rw [← hR]; exact e1
      exact flt71 (by omega) (hX (by rw [hR']; exact (show (2 : Int) ≠ 0 by decide)) τ1 a1 (by rw [hR']; exact b2) (by rw [hR']; exact b3)) (Or.inr rfl)
    · have h3l : s + 3 ≤ len l := by
        have hpe := peF_in (l := l) _ s rfl hs1.1 hs1.2
        unfold wdF at z2
        rw [Bool.and_eq_true, decide_eq_true_iff] at z2
        have z2' : peF l s - s = 3 := z2.1
        omega
      rw [if_pos z2] at eK
      exact OPW 3 z3 eK h3l (by decide)
    · have z2' : wdF l s kOR = true := z2
      rw [z2'] at q3
      exact absurd q3 (by decide)
    · have z2' : wdF l s kXOR = true := z2
      rw [z2'] at q4
      exact absurd q4 (by decide)
    · have n0 : wdF l s kAND = false := Bool.eq_false_iff.mpr (fun y => by
        have := (nx_wd hs1 (Or.inl rfl) y).2.1
        rw [z3] at this
        have t : (4 : Int) = opQ kAND := congrArg (fun z => z.1) this
        exact absurd t (by decide))
      have e : (nxQ l s).1 = 4 := by rw [z3]
      exact IMP n0 (by omega) (by omega) (by omega) (by omega) (by omega) (by omega)
  · subst h1 h2
    have hg5 : wdF l s kXOR = true := by
      unfold goF at hg
      rw [if_neg (by decide), if_pos rfl] at hg
      exact hg
    have z := nx_wd hs1 (Or.inr (Or.inr (Or.inl rfl))) hg5
    have h3l : s + 3 ≤ len l := by
      have hpe := peF_in (l := l) _ s rfl hs1.1 hs1.2
      unfold wdF at hg5
      rw [Bool.and_eq_true, decide_eq_true_iff] at hg5
      have z2' : peF l s - s = 3 := hg5.1
      omega
    exact OPW 3 z.2.1 rfl h3l (by decide)
  · subst h1 h2
    have hg4 : wdF l s kOR = true := by
      unfold goF at hg
      rw [if_pos rfl] at hg
      exact hg
    have z := nx_wd hs1 (Or.inr (Or.inl rfl)) hg4
    have h3l : s + 2 ≤ len l := by
      have hpe := peF_in (l := l) _ s rfl hs1.1 hs1.2
      unfold wdF at hg4
      rw [Bool.and_eq_true, decide_eq_true_iff] at hg4
      have z2' : peF l s - s = 2 := hg4.1
      omega
    exact OPW 2 z.2.1 rfl h3l (by decide)
end QLV
