/-! the twin: the subject of a thread; references; a date -/
set_option maxRecDepth 100000
theorem bscn_dn {p : Int → Bool} {l : List Int} {lo e : Int} (h0 : 0 ≤ lo) (h1 : lo < e) (hs : p (gt l (e - 1)) = false) : ∀ (N : Nat) (hi : Int), (hi - e).toNat = N → e ≤ hi → hi ≤ len l → (∀ j, e ≤ j → j < hi → p (gt l j) = true) → bscn p l lo hi = e := by
  intro N
  induction N using Nat.strongRecOn with
  | ind N ih =>
    intro hi hN h2 h3 hp
    rcases Int.lt_or_eq_of_le h2 with c | c
    · rw [bscn_step h0 (by omega) h3 (hp (hi - 1) (by omega) (by omega))]
      exact ih _ (by omega) (hi - 1) rfl (by omega) (by omega) (fun j j0 j1 => hp j j0 (by omega))
    · rw [← c]
      exact bscn_stop h0 h1 (by omega) hs
/-- a text all of blanks, trimmed -/
theorem trmL_bl {s : List Int} (h : ∀ j, 0 ≤ j → j < len s → chBl (gt s j)) : trmL s = [] := by
  have n0 := len_nn s
  have e : scn blB s 0 = len s := scn_uniq (Int.le_refl 0) n0 (Int.le_refl _) (fun j j0 j1 => blB_t.mpr (h j j0 j1)) (Or.inl rfl)
  unfold trmL
  rw [e, bscn_lo n0 (Int.le_refl _)]
  refine List.eq_nil_of_length_eq_zero ?_
  have h1 : ((sub s (len s) (len s)).length : Int) = len s - len s := len_sub (l := s) (i := len s) (n := len s) ⟨n0, Int.le_refl _, Int.le_refl _⟩
  omega
theorem trmL_at {s : List Int} {a e : Int} (ha : 0 ≤ a) (hae : a < e) (he : e ≤ len s) (h1 : ∀ j, 0 ≤ j → j < a → chBl (gt s j)) (h2 : ∀ j, e ≤ j → j < len s → chBl (gt s j)) (h3 : ¬ chBl (gt s a)) (h4 : ¬ chBl (gt s (e - 1))) : trmL s = sub s a e := by
  have eA : scn blB s 0 = a := scn_uniq (Int.le_refl 0) ha (by omega) (fun j j0 j1 => blB_t.mpr (h1 j j0 j1)) (Or.inr (blB_f.mpr h3))
  have eB : bscn blB s a (len s) = e := bscn_dn ha hae (blB_f.mpr h4) _ (len s) rfl he (Int.le_refl _) (fun j j0 j1 => blB_t.mpr (h2 j j0 j1))
  unfold trmL
  rw [eA, eB]
section WTH
variable {τ : TT} {m u : List Int} {ls : List (List Int)} {k a e : Int} {v : Ev} {E : List Ev}
theorem bsG_n (h : pfE u k = 0) : bsG u k = k := by rw [bsG, dif_neg (fun z => z.2.2 h)]
theorem bsG_y (h : 0 ≤ k ∧ k ≤ len u ∧ pfE u k ≠ 0) : bsG u k = bsG u (max (k + 1) (scn blB u (pfE u k))) := by rw [bsG, dif_pos h]
abbrev thSc : List Int := [109, 112, 148, 150, 153, 154, 155, 156, 157, 158, 159, 160, 161, 162, 205]
abbrev thAr : List Int := [78, 100, 101, 102, 103, 137]
theorem sub_self {l : List Int} : sub l 0 (len l) = l := by
  unfold sub
  rw [show (0 : Int).toNat = 0 from rfl, List.drop_zero]
  exact List.take_of_length_le (by unfold len; omega)
/-- from a base's first character on: the answers' signs are taken -/
theorem t_signs {Q : Int → TT → Prop} (h : SBJ τ a u) (hu : ∀ i, 0 ≤ i → i < len u → 0 ≤ gt u i ∧ gt u i < 100000) (he : e = a + len u) (h112 : τ.1 112 = 0)
    (hQ : ∀ τ' k, Fr τ τ' [109, 112] [] → 0 ≤ k → k ≤ len u → bsG u 0 = k → τ'.1 109 = len u - k → τ'.1 112 = (if k = 0 then 0 else 1) → Q (a + k) τ') : W_readThread_119 e a τ Q := by
  have L : ∀ (N : Nat) (k : Int) (τ1 : TT), (len u - k).toNat = N → 0 ≤ k → k ≤ len u → Fr τ τ1 [109, 112] [] → bsG u 0 = bsG u k → τ1.1 112 = (if k = 0 then 0 else 1) → W_readThread_126 e (a + k) (if pfE u k = 0 then -1 else a + pfE u k) τ1 Q := by
    intro N
    induction N using Nat.strongRecOn with
    | ind N ih =>
      intro k τ1 hN k0 k1 hF hb h1
      obtain ⟨⟨b1, b2⟩, b3⟩ := h
      by_cases c : pfE u k = 0
      · rw [if_pos c]
        refine s_readThread_126 ⟨by decide, fun _ => ⟨by omega, by omega, hQ _ k (hF.ps _ _) k0 k1 (by rw [hb]; exact bsG_n c) ?_ h1⟩, fun c128 => absurd rfl c128⟩
        show e - (a + k) = _
        omega
      · have hin := pfE_in c
        rw [if_neg c]
        refine s_readThread_126 ⟨by omega, fun c128 => absurd c128 (by omega), fun _ => ?_⟩
        have F1 : Fr τ (τ1.s 112 1) [109, 112] [] := hF.ps _ _
        have M : ∀ (N2 : Nat) (j : Int), (len u - j).toNat = N2 → pfE u k ≤ j → j ≤ len u → scn blB u (pfE u k) = scn blB u j → W_readThread_138 e (a + j) (τ1.s 112 1) Q := by
          intro N2
          induction N2 using Nat.strongRecOn with
          | ind N2 im =>
            intro j hN2 j0 j1 hj
            have hS1 : SBJ (τ1.s 112 1) a u := SBJ.fr ⟨⟨b1, b2⟩, b3⟩ (F1.a 78)
            have GO : scn blB u (pfE u k) = j → W_readThread_161 e (a + j) (τ1.s 112 1) Q := fun hs => by
              refine s_readThread_161 (t_behindAnswer hS1 hu ⟨by omega, j1⟩ he (fun r164 => ?_))
              refine ih _ (by omega) j _ rfl (by omega) j1 F1 ?_ ?_
              · rw [hb, bsG_y ⟨k0, k1, c⟩, hs, show max (k + 1) j = j by omega]
              · rw [if_neg (by omega)]; rfl
            refine s_readThread_138 ⟨by omega, by omega, fun c140 => GO (by rw [hj]; exact scn_end (by omega)), fun c140 => ⟨by omega, ?_⟩⟩
            have hkl : 0 ≤ j ∧ j < len u := ⟨by omega, by omega⟩
            have eg : (τ1.s 112 1).2 78 (a + j) = gt u j := hS1.2 j hkl.1 hkl.2
            rw [eg]
            refine fun r148 => t_isBlank r148 (fun q r149 => ⟨fun c0 => absurd c0 (by decide), fun _ => ?_⟩) (fun q r149 => ⟨fun _ => GO (by rw [hj]; exact scn_stop hkl (blB_f.mpr q)), fun c0 => absurd rfl c0⟩)
            rw [show a + j + 1 = a + (j + 1) by omega]
            exact im _ (by omega) (j + 1) rfl (by omega) (by omega) (by rw [hj]; exact scn_step hkl (blB_t.mpr q))
        exact M _ (pfE u k) rfl (Int.le_refl _) hin.2.2.1 rfl
  refine s_readThread_119 ?_
  have z := t_behindAnswer (k := 0) (Q := fun x122 τ122 => ∀ (_ : -2147483648 ≤ x122 ∧ x122 < 2147483648), W_readThread_126 e a x122 τ122 Q) h hu ⟨Int.le_refl 0, len_nn u⟩ he (fun r122 => ?_)
  · rw [Int.add_zero] at z; exact z
  · have y := L _ 0 τ rfl (Int.le_refl 0) (len_nn u) Fr.rf rfl (by rw [if_pos rfl]; exact h112)
    rw [Int.add_zero] at y
    exact y
theorem t_readThread {Q : Int → TT → Prop} (h : ENH τ ls 0 v) (hL : LNS τ m ls)
    (hQ : ∀ τ' a, Fr τ τ' thSc thAr → SBJ τ' a (baF (smS (sjF (evH v)))) → τ'.1 109 = len (baF (smS (sjF (evH v)))) → τ'.1 112 = (if baF (smS (sjF (evH v))) = trmL (smS (sjF (evH v))) then 0 else 1) → 0 ≤ a → Q a τ') : w_readThread τ Q := by
  have F0 : Fr τ ((τ.s 109 0).s 112 0) thSc thAr := (Fr.rf.ps _ _).ps _ _
  have B0 : trmL [] = [] := trmL_bl (fun j j0 j1 => absurd j1 (by show ¬ j < 0; omega))
  have B1 : baF [] = [] := by unfold baF; rw [B0]; unfold sub; simp
  refine s_readThread (t_readSubject (h.frF F0) (hL.frF F0) (fun τ1 hF1 hN r11 => ⟨fun c => absurd rfl c, fun _ => ?_⟩) (fun τ1 x hF1 hN hby hxl hX r11 => ⟨fun _ => ?_, fun c => absurd c (by decide)⟩))
  · have e0 : sjF (evH v) = [] := by
      show tfF (enR (vlF (evH v) SUBN) 0 [] false) = []
      rw [vlF_0 hN, enR, dif_neg (fun z => absurd z.2 (by decide)), utf8.eq_1]
      rfl
    have e1 : smS (sjF (evH v)) = [] := by rw [e0]; rfl
    rw [e1, B0, B1] at hQ
    refine hQ τ1 0 (F0.tr hF1) ⟨⟨Int.le_refl 0, by decide⟩, fun j j0 j1 => absurd j1 (by show ¬ j < 0; omega)⟩ ((hF1.s 109).trans rfl) ((hF1.s 112).trans rfl) (Int.le_refl 0)
  · have e0 : sjF (evH v) = tfF (enR x 0 [] false) := by
      show tfF (enR (vlF (evH v) SUBN) 0 [] false) = _
      rw [vlF_1 hN]
    rw [e0] at hQ
    have hnn : nnL (enR x 0 [] false) := enR_nn hby _ 0 [] false rfl nnL.nil
    have hTl : len (enR x 0 [] false) ≤ 4200 := by
      have y := enR_t hby _ 0 [] false rfl (Int.le_refl 0)
      rw [List.length_nil] at y
      unfold len at *
      omega
    generalize enR x 0 [] false = t at *
    have hXn := hX.ln
    have n0 := len_nn t
    have hsl : len (smS (tfF t)) = len t := by unfold smS; rw [len_map, tfF_len]
    have hsg : ∀ j, 0 ≤ j → j < len t → gt (smS (tfF t)) j = smW (tfC (gt t j)) := fun j j0 j1 => by
      unfold smS
      rw [gt_map ⟨j0, by rw [tfF_len]; exact j1⟩]
      unfold tfF
      rw [gt_map ⟨j0, j1⟩]
    have hsb : ∀ j, 0 ≤ j → j < len t → 0 ≤ gt (smS (tfF t)) j ∧ gt (smS (tfF t)) j < 100000 := fun j j0 j1 => by
      rw [hsg j j0 j1]
      have y := tfC_in (gt t j)
      have z := smW_bd (c := tfC (gt t j)) (by omega)
      have w : 0 ≤ smW (tfC (gt t j)) := by
        unfold smW
        split <;> omega
      omega
    generalize hs : smS (tfF t) = s at *
    have h112 : τ1.1 112 = 0 := (hF1.s 112).trans rfl
    have F1 : Fr τ τ1 thSc thAr := F0.tr hF1
    -- the end
    have FIN : ∀ (a e : Int) (u : List Int) (τ2 : TT), trmL s = u → e = a + len u → SBJ τ2 a u → (∀ i, 0 ≤ i → i < len u → 0 ≤ gt u i ∧ gt u i < 100000) → Fr τ τ2 thSc thAr → τ2.1 112 = 0 → W_readThread_119 e a τ2 Q := fun a e u τ2 hu he hS hub hF2 h2 => by
      refine t_signs hS hub he h2 (fun τ3 k hF3 k0 k1 hk e109 e112 => ?_)
      have hb : baF s = sub u k (len u) := by unfold baF; rw [hu, hk]
      have hbl : len (baF s) = len u - k := by rw [hb, len_sub ⟨k0, k1, Int.le_refl _⟩]
      refine hQ τ3 (a + k) (hF2.tr hF3) ⟨⟨by have := hS.1; omega, by have := hS.1; omega⟩, fun j j0 j1 => ?_⟩ (by rw [hbl]; exact e109) ?_ (by have := hS.1; omega)
      · rw [hF3.a 78, Int.add_assoc, hS.2 (k + j) (by omega) (by omega), hb, gt_sub ⟨k0, k1, Int.le_refl _⟩ j0 (by omega)]
      · rw [e112, hu]
        by_cases c : k = 0
        · rw [if_pos c, if_pos (by rw [hb, c]; exact sub_self)]
        · rw [if_neg c, if_neg (fun z => by rw [z] at hbl; omega)]
    -- the letters
    have L26 : ∀ (N : Nat) (j : Int) (τ2 : TT), (len t - j).toNat = N → 0 ≤ j → j ≤ len t → Fr τ τ2 thSc thAr → τ2.1 112 = 0 → TXD τ2 t → (∀ i, 0 ≤ i → i < j → τ2.2 78 i = gt s i) → W_readThread_26 (len t) j τ2 Q := by
      intro N
      induction N using Nat.strongRecOn with
      | ind N ih =>
        intro j τ2 hN j0 j1 hF hz hX2 hj
        refine s_readThread_26 ⟨by omega, by omega, fun c28 => ?_, fun c28 => ⟨by omega, ?_⟩⟩
        · have ej : j = len t := by omega
          rw [ej] at hj
          have U : ∀ (N3 : Nat) (e k : Int), (e - k).toNat = N3 → 0 ≤ k → k ≤ e - 1 → e ≤ len t → ¬ chBl (gt s (e - 1)) → (∀ i, e ≤ i → i < len t → chBl (gt s i)) → (∀ i, 0 ≤ i → i < k → chBl (gt s i)) → W_readThread_96 e k τ2 Q := by
            intro N3
            induction N3 using Nat.strongRecOn with
            | ind N3 iu =>
              intro e k hN3 k0 k1 e1 hne he hk
              refine s_readThread_96 ⟨by omega, by omega, fun c98 => absurd c98 (by omega), fun c98 => ⟨by omega, ?_⟩⟩
              rw [hj k k0 (by omega)]
              have hb := hsb k k0 (by omega)
              refine fun r106 => t_isBlank (by omega) (fun q r107 => ⟨fun c0 => absurd c0 (by decide), fun _ => iu _ (by omega) e (k + 1) rfl (by omega) ?_ e1 hne he (fun i i0 i1 => ?_)⟩) (fun q r107 => ⟨fun _ => ?_, fun c0 => absurd rfl c0⟩)
              · rcases Int.lt_or_eq_of_le k1 with c | c
                · omega
                · rw [c] at q; exact absurd q hne
              · by_cases c : i = k
                · rw [c]; exact q
                · exact hk i i0 (by omega)
              · have hT := trmL_at (s := s) k0 c98 (by omega) hk (fun i i0 i1 => he i i0 (by omega)) q hne
                have hlu : len (sub s k e) = e - k := len_sub ⟨k0, by omega, by omega⟩
                refine FIN k e (sub s k e) τ2 hT (by omega) ⟨⟨k0, by omega⟩, fun i i0 i1 => ?_⟩ (fun i i0 i1 => ?_) hF hz
                · rw [gt_sub ⟨k0, by omega, by omega⟩ i0 (by omega)]; exact hj (k + i) (by omega) (by omega)
                · rw [gt_sub ⟨k0, by omega, by omega⟩ i0 (by omega)]; exact hsb (k + i) (by omega) (by omega)
          have D : ∀ (N2 : Nat) (e : Int), e.toNat = N2 → 0 ≤ e → e ≤ len t → (∀ i, e ≤ i → i < len t → chBl (gt s i)) → W_readThread_70 e τ2 Q := by
            intro N2
            induction N2 using Nat.strongRecOn with
            | ind N2 id =>
              intro e hN2 e0 e1 he
              refine s_readThread_70 ⟨by omega, fun c71 => ?_, fun c71 => ⟨by omega, ?_⟩⟩
              · have ee : e = 0 := by omega
                rw [ee] at he ⊢
                refine s_readThread_96 ⟨by decide, by decide, fun _ => FIN 0 0 [] τ2 (trmL_bl (fun i i0 i1 => he i i0 (by omega))) rfl ⟨⟨Int.le_refl 0, by decide⟩, fun i i0 i1 => absurd i1 (by show ¬ i < 0; omega)⟩ (fun i i0 i1 => absurd i1 (by show ¬ i < 0; omega)) hF hz, fun c98 => absurd c98 (by decide)⟩
              · rw [hj (e - 1) (by omega) (by omega)]
                have hb := hsb (e - 1) (by omega) (by omega)
                refine fun r81 => t_isBlank (by omega) (fun q r82 => ⟨fun c0 => absurd c0 (by decide), fun _ => ?_⟩) (fun q r82 => ⟨fun _ => U _ e 0 rfl (Int.le_refl 0) (by omega) e1 q he (fun i i0 i1 => absurd i1 (by omega)), fun c0 => absurd rfl c0⟩)
                refine id _ (by omega) (e + (-1)) rfl (by omega) (by omega) (fun i i0 i1 => ?_)
                by_cases c : i = e - 1
                · rw [c]; exact q
                · exact he i (by omega) i1
          exact D _ (len t) rfl n0 (Int.le_refl _) (fun i i0 i1 => absurd i1 (by omega))
        · have hrd : τ2.2 101 j = gt t j := hX2.rd ⟨j0, c28⟩
          have hg0 : 0 ≤ gt t j := hnn.gnn
          rw [hrd]
          have NEXT : ∀ y : Int, y = gt s j → W_readThread_26 (len t) (j + 1) (τ2.a 78 j y) Q := fun y hy => by
            refine ih _ (by omega) (j + 1) _ rfl (by omega) (by omega) (hF.pa _ _ _) hz (hX2.fr rfl rfl) (fun i i0 i1 => ?_)
            show up (τ2.2 78) j y i = _
            by_cases q : i = j
            · rw [q, up_at, hy]
            · rw [up_ne _ q]; exact hj i i0 (by omega)
          have hgs := hsg j j0 c28
          refine fun r41 => ⟨fun c45 r59 => t_wSmall (by omega) (fun r60 => NEXT _ ?_), fun c45 => NEXT 65533 ?_⟩
          · rw [hgs, tfC_lo hg0, if_neg (by omega)]
          · rw [hgs, tfC_lo hg0, if_pos (by omega)]
            decide
    rw [← hXn]
    exact fun r20 => L26 _ 0 τ1 rfl (Int.le_refl 0) n0 F1 h112 hX (fun i i0 i1 => absurd i1 (by omega))
end WTH
