/-! the twin: a query is read: all -/
set_option maxRecDepth 100000
section QTP
variable {τ0 τ : TT} {l : List Int} {Q : TT → Prop} {N : Nat} {R : PRes}
theorem st_all : ∀ N : Nat, ST0 τ0 l Q N ∧ ST1 τ0 l Q N ∧ STm τ0 l Q N ∧ STL τ0 l Q N := by
  intro N
  induction N with
  | zero =>
    have e9 : ∀ m deep T n k c, qS l 0 m deep T n k c = pX 99 0 0 := fun m deep T n k c => by rw [qS]
    refine ⟨?_, ?_, ?_, ?_⟩
    · intro deep c k n T as D O V τ1 k0 kl hP hc R hR h99 hX hS
      exact absurd (by rw [← hR, e9]; rfl) h99
    · intro deep c k T as D O V τ1 h40 k0 hsk hP hc R hR h99 hX hS
      exact absurd (by rw [← hR, e9]; rfl) h99
    · intro m f hlv deep c k n T as D O V τ1 k0 kl hlow hP hc R hR h99 hX hK
      exact absurd (by rw [← hR, e9]; rfl) h99
    · intro m f hlv deep c k n T as D P vs W O V τ1 k0 kl hlow hP hRA hPf hE hwT hgi hc R hR h99 hX hK
      exact absurd (by rw [← hR, e9]; rfl) h99
  | succ N ih =>
    obtain ⟨h0, h1, hm, hL⟩ := ih
    exact ⟨st_0 h0 h1, st_1 hm, st_m h0 hm hL, st_L h0 hm hL⟩
abbrev rqS : List Int := [264, 265, 266, 270, 271, 272, 273, 274, 275, 276, 277, 286, 287, 291, 292, 293, 297, 298, 299, 300]
/-- a query is read: as the component reads it -/
theorem t_qReadAll (h : QTX τ l) (hl : len l ≤ 1300) (hR : allQ l N = R) (h99 : (qS l N (-4) 0 [] 0 (skQ l 0) 0).1.1 ≠ 99)
    (hQe : skQ l 0 = len l → ∀ τ', Fr τ τ' rqS psA → τ'.1 265 = 0 → τ'.1 287 = -1 → Q τ')
    (hQ1 : skQ l 0 ≠ len l → R.1.1 = 0 → ∀ (τ' : TT) (as : List Ato) (D : List Den) (d : Den), Fr τ τ' rqS psA → τ'.1 265 = 0 → ATS τ' l as → NDS τ' as D → 0 ≤ τ'.1 287 → D[(τ'.1 287).toNat]? = some d → eqD d R.2.1 → lnW as ≤ 40 → Q τ')
    (hQ0 : skQ l 0 ≠ len l → R.1.1 ≠ 0 → ∀ τ', Fr τ τ' rqS psA → τ'.1 265 = R.1.1 → τ'.1 266 = R.1.2 → Q τ') : w_qReadAll τ Q := by
  have hn := h.ln
  have n0 := len_nn l
  have hsk := nx_skip (l := l) (k := 0) ⟨Int.le_refl 0, n0⟩
  have hidem := skQ_idem (l := l) _ 0 rfl
  have Fi : Fr τ ((((((((((τ.s 264 0).s 265 0).s 266 (-1)).s 276 0).s 277 0).s 286 0).s 291 0).s 292 0).s 293 0).s 287 (-1)) rqS psA := (((((((((Fr.rf.ps _ _).ps _ _).ps _ _).ps _ _).ps _ _).ps _ _).ps _ _).ps _ _).ps _ _).ps _ _
  have k264 : ((((((((((τ.s 264 0).s 265 0).s 266 (-1)).s 276 0).s 277 0).s 286 0).s 291 0).s 292 0).s 293 0).s 287 (-1)).1 264 = 0 := rfl
  have k265 : ((((((((((τ.s 264 0).s 265 0).s 266 (-1)).s 276 0).s 277 0).s 286 0).s 291 0).s 292 0).s 293 0).s 287 (-1)).1 265 = 0 := rfl
  have k287 : ((((((((((τ.s 264 0).s 265 0).s 266 (-1)).s 276 0).s 277 0).s 286 0).s 291 0).s 292 0).s 293 0).s 287 (-1)).1 287 = -1 := rfl
  have kA : ATS ((((((((((τ.s 264 0).s 265 0).s 266 (-1)).s 276 0).s 277 0).s 286 0).s 291 0).s 292 0).s 293 0).s 287 (-1)) l [] := ⟨rfl, fun n v hv => by cases hv⟩
  have kN : NDS ((((((((((τ.s 264 0).s 265 0).s 266 (-1)).s 276 0).s 277 0).s 286 0).s 291 0).s 292 0).s 293 0).s 287 (-1)) [] [] := ⟨rfl, fun n v hv => by cases hv⟩
  have kV : VLQ ((((((((((τ.s 264 0).s 265 0).s 266 (-1)).s 276 0).s 277 0).s 286 0).s 291 0).s 292 0).s 293 0).s 287 (-1)) [] [] := ⟨rfl, fun n v hv => by cases hv⟩
  have kW : WTQ ((((((((((τ.s 264 0).s 265 0).s 266 (-1)).s 276 0).s 277 0).s 286 0).s 291 0).s 292 0).s 293 0).s 287 (-1)) [] := ⟨rfl, fun n v hv => by cases hv⟩
  have k277 : ((((((((((τ.s 264 0).s 265 0).s 266 (-1)).s 276 0).s 277 0).s 286 0).s 291 0).s 292 0).s 293 0).s 287 (-1)).1 277 = 0 := rfl
  have k293 : ((((((((((τ.s 264 0).s 265 0).s 266 (-1)).s 276 0).s 277 0).s 286 0).s 291 0).s 292 0).s 293 0).s 287 (-1)).1 293 = 0 := rfl
  have kQ : QTX ((((((((((τ.s 264 0).s 265 0).s 266 (-1)).s 276 0).s 277 0).s 286 0).s 291 0).s 292 0).s 293 0).s 287 (-1)) l := h.fr rfl rfl
  refine s_qReadAll ?_
  generalize ((((((((((τ.s 264 0).s 265 0).s 266 (-1)).s 276 0).s 277 0).s 286 0).s 291 0).s 292 0).s 293 0).s 287 (-1)) = τi at *
  have kB : PSB τi l τi [] [] [] [] 0 := ⟨Fr.rf, kQ, kA, kN, kV, kW, k277, k293, fun d hd => by cases hd⟩
  have hbd : ∀ s : Int, 0 ≤ s → BDQ s [] [] [] [] 0 3 := fun s hs => ⟨by show 3 * (0 + 0) ≤ s + 6 * 0 + 3 * 0 + 3; omega, by decide, by decide, by decide, by decide⟩
  -- what the levels give
  have MAIN : ∀ τ1, PSQ τi l τ1 (skQ l 0) [] [] [] [] 0 3 → skQ l 0 ≠ len l → W_qReadAll_71 0 τ1 Q := fun τ1 hP hne => by
    refine h0_71 hP ?_
    generalize hR1 : qS l N (-4) 0 [] 0 (skQ l 0) 0 = R1 at h99
    have hR' : prB R1 (fun U k c => if skQ l k = len l then ((0, 0), U, skQ l k, c, 0) else pX (wrW l (skQ l k)) (skQ l k) 6) = R := by rw [← hR1]; exact hR
    have hX : HXq τi Q R := fun hr τ' hF e1 e2 => hQ0 hne hr τ' ((show Fr τ τi rqS psA from Fi).tr hF) e1 e2
    have hX1 : HXq τi Q R1 := by rw [← hR'] at hX; exact hX.in
    have z := (st_all (τ0 := τi) (l := l) (Q := Q) N).2.2.1 (-4) 1 (Or.inr (Or.inr ⟨rfl, rfl⟩)) 0 0 (skQ l 0) 0 [] [] [] [] [] τ1 hsk.1.1 hsk.1.2 trivial (by rw [hidem]; exact hP) rfl R1 hR1 h99 hX1 (fun hok τ2 as2 D2 P2 vs2 W2 hP2 g1 g2 g3 g4 g5 g6 g7 g8 => ?_)
    · rw [hidem] at z; exact z
    rw [prB_ok hok, g6] at hR'
    have hPr := hP2
    obtain ⟨⟨hs2, -⟩, hB2, hb2, hw2⟩ := hP2
    obtain ⟨e1, e2, e3, e4, e5, e6, e7, e8, e9⟩ := hB2
    have hb2r := hb2.r (by omega) (by decide)
    rcases nx_kinds (l := l) (s := R1.2.2.1) hs2 with ⟨z1, z2⟩ | ⟨z1, z2⟩
    · rw [if_pos z1] at hR'
      have r1 : R.1.1 = 0 := by rw [← hR']; rfl
      have r2 : R.2.1 = R1.2.1 := by rw [← hR']; rfl
      rw [WRDQ, z2] at hw2
      rcases hw2 with ⟨f1, f2, f3, f4, f5, f6⟩ | ⟨f1, -⟩
      rotate_left
      · exact absurd f1 (show ¬ (0 : Int) = -9 by decide)
      have f3 : τ2.1 270 = 0 := f3
      refine s_qReadAll_71 (fun r72 => ⟨fun y => absurd f2 y, fun _ => ?_⟩)
      rw [f3]
      refine fun r79 => ⟨fun _ => s_qReadAll_115 (fun r116 => ⟨fun y => absurd f2 y, fun _ => ⟨by decide, fun y => absurd y (by decide), fun _ => ?_⟩⟩), fun y => absurd rfl y⟩
      rw [e8]
      refine fun r127 => ⟨fun _ => s_qReadAll_142 (fun r143 => ⟨fun y => absurd f2 y, fun _ => s_qReduceTo ?_⟩), fun y => absurd y (by decide)⟩
      refine t_qReduceTo0 (τ := τ2) (O := []) (V := []) (f := 1) trivial (by decide) P2 vs2 D2 τ2 g2 g3 e4 e5 e6 e9 (by omega) (by omega) Fr.rf (fun τ3 D3 hF3 x1 x2 x3 x4 x5 r160 => ?_)
      have y := x4.2 0 W2 rfl
      have e265 : τ3.1 265 = 0 := (hF3.s 265).trans f2
      refine hQ1 hne r1 (τ3.s 287 (τ3.2 191 0)) as2 (D2 ++ D3) W2 (((Fi.tr e1).tr hF3).ps _ _) e265 ((e3.fr hF3).fr (Fr.rf.ps _ _ : Fr τ3 _ [287] [])) (x3.fr (Fr.rf.ps _ _ : Fr τ3 _ [287] [])) y.1 y.2 ?_ hb2r.2.2.2.2.2.2
      rw [r2]; exact g4
    · have hg3 := g7.1
      have hg5 := g7.2.1 (by decide)
      have hg4 := g7.2.2 rfl
      have h41' : gt l R1.2.2.1 = 41 := by
        unfold goF at hg3 hg4 hg5
        rw [if_neg (by decide), if_neg (by decide)] at hg3
        rw [if_pos rfl] at hg4
        rw [if_neg (by decide), if_pos rfl] at hg5
        rw [hg4, hg5, decide_eq_true z1] at hg3
        have y : sgQ l R1.2.2.1 41 = true := by
          cases q : sgQ l R1.2.2.1 41 with
          | true => rfl
          | false => rw [q] at hg3; exact absurd hg3 (by decide)
        exact (sgQ_c.mp y).2
      rw [if_neg (by omega), wrW_1 (Or.inr (Or.inr (Or.inl h41')))] at hR'
      have r1 : R.1 = (1, R1.2.2.1) := by rw [← hR']; rfl
      have eN4 : nxQ l R1.2.2.1 = (6, 0, R1.2.2.1 + 1) := by unfold nxQ; rw [if_neg (by omega), if_neg (by omega), if_pos h41']
      rw [WRDQ, eN4] at hw2
      rcases hw2 with ⟨f1, f2, f3, f4, f5, f6⟩ | ⟨f1, -⟩
      rotate_left
      · exact absurd f1 (show ¬ (6 : Int) = -9 by decide)
      have f3 : τ2.1 270 = 6 := f3
      refine s_qReadAll_71 (fun r72 => ⟨fun y => absurd f2 y, fun _ => ?_⟩)
      rw [f3]
      refine fun r79 => ⟨fun y => absurd y (by decide), fun _ => ⟨by decide, fun y => absurd y (by decide), fun _ => s_qBehind ?_⟩⟩
      rw [f3, e8, f4]
      refine fun r1' => ⟨fun y => absurd y (by decide), fun _ => ⟨fun y => absurd y (by decide), fun _ => ⟨fun _ => ⟨fun y => absurd rfl y, fun _ r44 => ⟨fun y => absurd rfl y, fun _ r53 => t_qFail f2 (by decide) (by omega) (fun τ3 hF3 q1 q2 _ => ?_)⟩⟩, fun y => absurd y (by decide)⟩⟩⟩
      exact flt100 (by omega) (hX (by rw [r1]; exact (show (1 : Int) ≠ 0 by decide)) τ3 (e1.tr hF3) (by rw [r1]; exact q1) (by rw [r1]; exact q2)) (Or.inr rfl)
  -- the first word
  refine t_qNext kQ k264 ⟨Int.le_refl 0, n0⟩ k265 (fun τ1 hF1 b1 b2 b3 b4 b5 => ?_) (fun τ1 hF1 b1 b2 b3 => ?_)
  · have hP : PSQ τi l τ1 (skQ l 0) [] [] [] [] 0 3 := ⟨⟨hsk.1, hl⟩, kB.fr hF1, hbd _ hsk.1.1, Or.inl ⟨b1, (hF1.s 265).trans k265, b2, b3, b4, b5⟩⟩
    have e265 : τ1.1 265 = 0 := (hF1.s 265).trans k265
    refine fun r55 => ⟨fun y => absurd e265 y, fun _ => ?_⟩
    rw [b2]
    refine fun r62 => ⟨fun y => MAIN τ1 hP (fun z => y ?_), fun y => hQe ?_ τ1 (Fi.tr hF1) e265 ((hF1.s 287).trans k287)⟩
    · unfold nxQ; rw [if_pos (by omega)]
    · rcases nx_kinds (l := l) (s := skQ l 0) hsk.1 with ⟨z1, z2⟩ | ⟨z1, ⟨z2, z3⟩ | ⟨z2, z3⟩ | ⟨z2, z3, z4⟩ | ⟨z2, z3, z4, z5, z6⟩ | ⟨z2, z3⟩ | ⟨z2, z3⟩ | ⟨z2, z3⟩ | ⟨z2, z3⟩⟩
      · exact z1
      · rw [z3] at y; exact absurd y (show ¬ (5 : Int) = 0 by decide)
      · rw [z3] at y; exact absurd y (show ¬ (6 : Int) = 0 by decide)
      · omega
      · rw [z6] at y; exact absurd y (show ¬ (-9 : Int) = 0 by decide)
      · rw [z3] at y; exact absurd y (show ¬ (3 : Int) = 0 by decide)
      · rw [z3] at y; exact absurd y (show ¬ (1 : Int) = 0 by decide)
      · rw [z3] at y; exact absurd y (show ¬ (2 : Int) = 0 by decide)
      · rw [z3] at y; exact absurd y (show ¬ (4 : Int) = 0 by decide)
  · have hP : PSQ τi l τ1 (skQ l 0) [] [] [] [] 0 3 := ⟨⟨hsk.1, hl⟩, kB.fr hF1, hbd _ hsk.1.1, Or.inr ⟨b1, b2, b3⟩⟩
    refine fun r55 => ⟨fun _ => MAIN τ1 hP (fun z => ?_), fun y => by omega⟩
    have : nxQ l (skQ l 0) = (0, 0, skQ l 0) := by unfold nxQ; rw [if_pos (by omega)]
    rw [this] at b1
    exact absurd b1 (show ¬ (0 : Int) = -9 by decide)
end QTP
