/-! the twin: a subject without its answers' signs -/
set_option maxRecDepth 100000
/-- a text within the row of a subject -/
def SBJ (τ : TT) (a : Int) (u : List Int) : Prop := (0 ≤ a ∧ a + len u ≤ 4200) ∧ ∀ j, 0 ≤ j → j < len u → τ.2 78 (a + j) = gt u j
theorem SBJ.fr {τ τ' : TT} {a : Int} {u : List Int} (h : SBJ τ a u) (e : τ'.2 78 = τ.2 78) : SBJ τ' a u := by unfold SBJ; rw [e]; exact h
section WBH
variable {τ : TT} {u w : List Int} {a k e x y z : Int}
theorem pAt_2 (h : 0 ≤ k ∧ k + 2 ≤ len u) : pAtB u [x, y] k = true ↔ (gt u k = x ∧ gt u (k + 1) = y) := by
  rw [← pAt_B]
  refine ⟨fun q => ⟨?_, q.2.2 1 (by decide) (show (1 : Int) < 2 by decide)⟩, fun q => ⟨h.1, h.2, fun i i0 i1 => ?_⟩⟩
  · have := q.2.2 0 (by decide) (show (0 : Int) < 2 by decide)
    rw [Int.add_zero] at this
    exact this
  · have i1 : i < 2 := i1
    rcases (show i = 0 ∨ i = 1 by omega) with c | c
    · rw [c, Int.add_zero]; exact q.1
    · rw [c]; exact q.2
theorem pAt_3 (h : 0 ≤ k ∧ k + 3 ≤ len u) : pAtB u [x, y, z] k = true ↔ (gt u k = x ∧ gt u (k + 1) = y ∧ gt u (k + 2) = z) := by
  rw [← pAt_B]
  refine ⟨fun q => ⟨?_, q.2.2 1 (by decide) (show (1 : Int) < 3 by decide), q.2.2 2 (by decide) (show (2 : Int) < 3 by decide)⟩, fun q => ⟨h.1, h.2, fun i i0 i1 => ?_⟩⟩
  · have := q.2.2 0 (by decide) (show (0 : Int) < 3 by decide)
    rw [Int.add_zero] at this
    exact this
  · have i1 : i < 3 := i1
    rcases (show i = 0 ∨ i = 1 ∨ i = 2 by omega) with c | c | c
    · rw [c, Int.add_zero]; exact q.1
    · rw [c]; exact q.2.1
    · rw [c]; exact q.2.2
theorem pAt_no (h : ¬ k + len w ≤ len u) : ¬ pAtB u w k = true := fun q => h (pAt_B.mpr q).2.1
theorem t_isWordAt {Q : Int → TT → Prop} (h : SBJ τ a u) (hk : 0 ≤ k ∧ k ≤ len u) (hx : 0 ≤ x ∧ x < 256) (hy : 0 ≤ y ∧ y < 256) (hz : 0 ≤ z ∧ z < 256) (he : e = a + len u)
    (hQ1 : pAtB u (if z = 0 then [x, y] else [x, y, z]) k = true → Q 1 τ) (hQ0 : ¬ pAtB u (if z = 0 then [x, y] else [x, y, z]) k = true → Q 0 τ) : w_isWordAt (a + k) e x y z τ Q := by
  obtain ⟨⟨h1, h2⟩, h3⟩ := h
  have J : ∀ s : Int, (z = 0 ∧ s = 2 ∨ z ≠ 0 ∧ s = 3) → W_isWordAt_10 (a + k) e x y z s τ Q := fun s hs => by
    have hlen : len (if z = 0 then [x, y] else [x, y, z]) = s := by
      rcases hs with ⟨c, d⟩ | ⟨c, d⟩
      · rw [if_pos c, d]; rfl
      · rw [if_neg c, d]; rfl
    refine s_isWordAt_10 ⟨by omega, by omega, fun c17 => hQ0 (pAt_no (by rw [hlen]; omega)), fun c17 => ⟨by omega, ?_⟩⟩
    have e0 := h3 k hk.1 (by omega)
    have e1 := h3 (k + 1) (by omega) (by omega)
    rw [← Int.add_assoc] at e1
    rw [e0, e1]
    have A : (if z = 0 then [x, y] else [x, y, z]) = (if z = 0 then [x, y] else [x, y, z]) := rfl
    have NO : ¬ (gt u k = x ∧ gt u (k + 1) = y) → Q 0 τ := fun n => hQ0 (fun q => n (by
      rcases hs with ⟨c, d⟩ | ⟨c, d⟩
      · rw [if_pos c] at q; exact (pAt_2 ⟨hk.1, by omega⟩).mp q
      · rw [if_neg c] at q
        have y := (pAt_3 ⟨hk.1, by omega⟩).mp q
        exact ⟨y.1, y.2.1⟩))
    refine fun r25 => ⟨by omega, fun c27 => NO (fun n => c27 n.1), fun c27 => ⟨by omega, fun r37 => ⟨by omega, fun c40 => NO (fun n => c40 n.2), fun c40 => ⟨by omega, fun c45 => hQ1 ?_, fun c45 => ⟨by omega, ?_⟩⟩⟩⟩⟩
    · rw [if_pos c45]; exact (pAt_2 ⟨hk.1, by omega⟩).mpr ⟨c27, c40⟩
    · have e2 := h3 (k + 2) (by omega) (by omega)
      rw [← Int.add_assoc] at e2
      rw [e2]
      refine fun r55 => ⟨fun c58 => hQ0 (fun q => ?_), fun c58 => hQ1 ?_⟩
      · rw [if_neg c45] at q; exact c58 ((pAt_3 ⟨hk.1, by omega⟩).mp q).2.2
      · rw [if_neg c45]; exact (pAt_3 ⟨hk.1, by omega⟩).mpr ⟨c27, c40, c58⟩
  exact s_isWordAt ⟨by omega, fun c2 => J 3 (Or.inr ⟨c2, rfl⟩), fun c2 => J 2 (Or.inl ⟨c2, rfl⟩)⟩
theorem t_isBlank {Q : Int → TT → Prop} (hc : -2147483648 ≤ x ∧ x < 2147483648) (hQ1 : chBl x → Q 1 τ) (hQ0 : ¬ chBl x → Q 0 τ) : w_isBlank x τ Q :=
  s_isBlank ⟨hc, fun c3 => hQ1 (Or.inl c3), fun c3 => ⟨fun c9 => hQ0 (by unfold chBl; omega), fun c9 => hQ1 (Or.inr c9)⟩⟩
theorem t_behindAnswer {Q : Int → TT → Prop} (h : SBJ τ a u) (hu : ∀ i, 0 ≤ i → i < len u → 0 ≤ gt u i ∧ gt u i < 100000) (hk : 0 ≤ k ∧ k ≤ len u) (he : e = a + len u) (hQ : Q (if pfE u k = 0 then -1 else a + pfE u k) τ) : w_behindAnswer (a + k) e τ Q := by
  have h' := h
  obtain ⟨⟨h1, h2⟩, h3⟩ := h
  have rd : ∀ j, 0 ≤ j → j < len u → τ.2 78 (a + j) = gt u j := h3
  have hN := pfN_in (l := u) (k := k)
  obtain ⟨R, hR⟩ : ∃ R : Int → Prop, R = fun x => Q (if x = 0 then -1 else a + x) τ := ⟨_, rfl⟩
  have RT : ∀ x, R x → Q (if x = 0 then -1 else a + x) τ := fun x z => by rw [hR] at z; exact z
  replace hQ : R (pfE u k) := by rw [hR]; exact hQ
  -- a sign and a colon
  have F166 : ∀ (j : Int), 0 ≤ j → j ≤ len u → R (pf1 u j) → W_behindAnswer_166 e (a + j) τ Q := fun j j0 j1 hq0 => by
    have hq := RT _ hq0
    refine s_behindAnswer_166 ⟨by omega, by omega, fun c168 => ?_, fun c168 => ⟨by omega, ?_⟩⟩
    · have z : pf1 u j = 0 := if_neg (fun y => by omega)
      rw [z, if_pos rfl] at hq; exact hq
    · rw [rd j j0 (by omega)]
      refine fun r176 => ⟨fun c179 => ?_, fun c179 => ⟨by omega, ?_⟩⟩
      · have z : pf1 u j = 0 := if_neg (fun y => c179 y.2)
        rw [z, if_pos rfl] at hq; exact hq
      · have z : pf1 u j = j + 1 := if_pos ⟨by omega, c179⟩
        rw [z, if_neg (by omega)] at hq
        rw [Int.add_assoc]; exact hq
  have F70 : ∀ n : Int, pfN u k = n → n ≠ 0 → W_behindAnswer_70 e (a + k + n) τ Q := fun n hn n0 => by
    rcases hN with y | ⟨y1, y2, y3, y4⟩
    · exact absurd (hn.symm.trans y) n0
    rw [hn] at y2 y3
    have hE : pfE u k = if k + n < len u ∧ gt u (k + n) = 91 then (if scn pfD u (k + n + 1) = k + n + 1 ∨ scn pfD u (k + n + 1) = len u ∨ gt u (scn pfD u (k + n + 1)) ≠ 93 then 0 else pf1 u (scn pfD u (k + n + 1) + 1)) else pf1 u (k + n) := by
      unfold pfE
      rw [hn, if_neg n0]
    rw [hE] at hQ
    refine s_behindAnswer_70 ⟨by omega, fun c73 => ?_, fun c73 => absurd c73 (by omega)⟩
    -- the digits
    have L : ∀ (N : Nat) (j : Int), (len u + 1 - j).toNat = N → k + n + 1 ≤ j → j ≤ len u + 1 → (k + n < len u → j ≤ len u ∧ scn pfD u (k + n + 1) = scn pfD u j) → W_behindAnswer_83 e (a + k + n) (a + j) τ Q := by
      intro N
      induction N using Nat.strongRecOn with
      | ind N ih =>
        intro j hN j0 j1 hj
        have STOP : (k + n < len u → scn pfD u (k + n + 1) = j) → W_behindAnswer_119 e (a + k + n) (a + j) τ Q := fun hs => by
          refine s_behindAnswer_119 ⟨by omega, by omega, fun c121 => ?_, fun c121 => ⟨by omega, ?_⟩⟩
          · rw [if_neg (fun z => by omega)] at hQ
            rw [Int.add_assoc]
            exact F166 (k + n) (by omega) y3 hQ
          have s1 := hs (by omega)
          have hj2 := (hj (by omega)).1
          rw [s1] at hQ
          rw [Int.add_assoc, rd (k + n) (by omega) (by omega)]
          refine fun r129 => ⟨fun c132 => ?_, fun c132 => ⟨by omega, by omega, fun c140 => ?_, fun c140 => ⟨fun c146 => ?_, fun c146 => ⟨by omega, ?_⟩⟩⟩⟩
          · rw [if_neg (fun z => c132 z.2)] at hQ
            exact F166 (k + n) (by omega) y3 hQ
          · rw [if_pos ⟨by omega, c132⟩, if_pos (Or.inl (by omega))] at hQ
            refine F166 (k + n) (by omega) y3 ?_
            rw [show pf1 u (k + n) = 0 from if_neg (fun z => by omega)]; exact hQ
          · rw [if_pos ⟨by omega, c132⟩, if_pos (Or.inr (Or.inl (by omega)))] at hQ
            refine F166 (k + n) (by omega) y3 ?_
            rw [show pf1 u (k + n) = 0 from if_neg (fun z => by omega)]; exact hQ
          · rw [rd j (by omega) (by omega)]
            refine fun r155 => ⟨fun c158 => ?_, fun c158 => ?_⟩
            · rw [if_pos ⟨by omega, c132⟩, if_pos (Or.inr (Or.inr c158))] at hQ
              refine F166 (k + n) (by omega) y3 ?_
              rw [show pf1 u (k + n) = 0 from if_neg (fun z => by omega)]; exact hQ
            · rw [if_pos ⟨by omega, c132⟩, if_neg (fun z => by omega)] at hQ
              rw [show a + j + 1 = a + (j + 1) by omega]
              exact F166 (j + 1) (by omega) (by omega) hQ
        refine s_behindAnswer_83 ⟨by omega, by omega, fun c86 => STOP (fun z => ?_), fun c86 => ⟨by omega, ?_⟩⟩
        · rw [(hj z).2, scn_end (by omega)]
        have hkl : 0 ≤ j ∧ j < len u := ⟨by omega, by omega⟩
        rw [rd j hkl.1 hkl.2]
        refine fun r95 => ⟨fun c98 => STOP (fun z => ?_), fun c98 r107 => ⟨fun c110 => STOP (fun z => ?_), fun c110 => ?_⟩⟩
        · rw [(hj z).2, scn_stop hkl (by unfold pfD; exact decide_eq_false (by unfold chDg; omega))]
        · rw [(hj z).2, scn_stop hkl (by unfold pfD; exact decide_eq_false (by unfold chDg; omega))]
        · rw [show a + j + 1 = a + (j + 1) by omega]
          refine ih _ (by omega) (j + 1) rfl (by omega) (by omega) (fun z => ⟨by omega, ?_⟩)
          rw [(hj z).2, scn_step hkl (by unfold pfD; exact decide_eq_true (by unfold chDg; omega))]
    rw [show a + k + n + 1 = a + (k + n + 1) by omega]
    exact L _ (k + n + 1) rfl (Int.le_refl _) (by omega) (fun z => ⟨by omega, rfl⟩)
  have eN : pfN u k = if pAtB u [114, 101] k = true ∨ pAtB u [97, 119] k = true then 2 else if pAtB u [102, 119, 100] k = true then 3 else if pAtB u [102, 119] k = true then 2 else 0 := rfl
  have RE3 : pAtB u [102, 119, 100] k = true → ¬ (pAtB u [114, 101] k = true ∨ pAtB u [97, 119] k = true) := fun q => by
    have q1 := (pAt_B.mpr q).2.1
    have q1 : k + 3 ≤ len u := q1
    have q2 := (pAt_3 ⟨hk.1, q1⟩).mp q
    rintro (r | r)
    · have := ((pAt_2 ⟨hk.1, by omega⟩).mp r).1; omega
    · have := ((pAt_2 ⟨hk.1, by omega⟩).mp r).1; omega
  refine s_behindAnswer (t_isWordAt h' hk (by decide) (by decide) (by decide) he (fun q r9 => ⟨fun c => absurd c (by decide), fun _ => F70 3 ?_ (by decide)⟩) (fun q1 r9 => ⟨fun _ => ?_, fun c => absurd rfl c⟩))
  · rw [if_neg (by decide)] at q
    rw [eN, if_neg (RE3 q), if_pos q]
  rw [if_neg (by decide)] at q1
  refine t_isWordAt h' hk (by decide) (by decide) (by decide) he (fun q r29 => ⟨fun _ => s_behindAnswer_63 (F70 2 ?_ (by decide)), fun c => absurd c (by decide)⟩) (fun q2 r29 => ⟨fun c => absurd rfl c, fun _ => ?_⟩)
  · rw [if_pos rfl] at q
    rw [eN, if_pos (Or.inl q)]
  rw [if_pos rfl] at q2
  refine t_isWordAt h' hk (by decide) (by decide) (by decide) he (fun q r43 => ⟨fun _ => s_behindAnswer_63 (F70 2 ?_ (by decide)), fun c => absurd c (by decide)⟩) (fun q3 r43 => ⟨fun c => absurd rfl c, fun _ => ?_⟩)
  · rw [if_pos rfl] at q
    by_cases r : pAtB u [114, 101] k = true ∨ pAtB u [97, 119] k = true
    · rw [eN, if_pos r]
    · rw [eN, if_neg r, if_neg q1, if_pos q]
  rw [if_pos rfl] at q3
  refine t_isWordAt h' hk (by decide) (by decide) (by decide) he (fun q r57 => ⟨fun c => absurd c (by decide), fun _ => s_behindAnswer_63 (F70 2 ?_ (by decide))⟩) (fun q4 r57 => ⟨fun _ => ?_, fun c => absurd rfl c⟩)
  · rw [if_pos rfl] at q
    rw [eN, if_pos (Or.inr q)]
  rw [if_pos rfl] at q4
  have e0 : pfN u k = 0 := by rw [eN, if_neg (fun z => z.elim q2 q4), if_neg q1, if_neg q3]
  have e1 : pfE u k = 0 := if_pos e0
  have hq := RT _ hQ
  rw [e1, if_pos rfl] at hq
  exact s_behindAnswer_70 ⟨by decide, fun c73 => absurd rfl c73, fun _ => hq⟩
end WBH
