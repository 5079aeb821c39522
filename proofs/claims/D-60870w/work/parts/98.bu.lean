/-! the twin: subject, names and texts are read -/
set_option maxRecDepth 100000
theorem csF_low {l : List Int} : csF (nmS l 0 (len l)) = csF (l.map lowB) := by
  have n0 := len_nn l
  have hs : sub l 0 (len l) = l := by
    unfold sub
    rw [show (0 : Int).toNat = 0 from rfl, List.drop_zero]
    exact List.take_of_length_le (by unfold len; omega)
  by_cases h : l.all (fun c => decide (33 ≤ c ∧ c ≤ 126)) = true
  · unfold nmS
    rw [hs, if_pos h]
  · unfold nmS
    rw [hs, if_neg h]
    have G : ∀ t, t ∈ chsN → ∀ c, c ∈ t → 33 ≤ c ∧ c ≤ 126 := by
      have F : (chsN.all fun t => t.all fun c => decide (33 ≤ c ∧ c ≤ 126)) = true := by decide +kernel
      intro t ht c hc
      exact of_decide_eq_true (List.all_eq_true.mp (List.all_eq_true.mp F t ht) c hc)
    have e0 : csF ([] : List Int) = -1 := by decide +kernel
    rw [e0, csF_out (fun z => h (List.all_eq_true.mpr (fun c hc => decide_eq_true ?_)))]
    have y := G _ z (lowB c) (List.mem_map_of_mem hc)
    unfold lowB at y
    split at y <;> omega
section WRT
variable {τ : TT} {m n p : List Int} {ls : List (List Int)} {k c e : Int} {v : Ev} {E : List Ev}
theorem t_readSubject {Q : Int → TT → Prop} (h : ENH τ ls 0 v) (hL : LNS τ m ls)
    (hQ0 : ∀ τ', Fr τ τ' [148, 150, 153, 154, 155, 156, 157, 158, 159, 160, 161, 162, 205] [100, 101, 102, 103, 137] → fdF (evH v) SUBN = none → Q 0 τ')
    (hQ1 : ∀ τ' x, Fr τ τ' [148, 150, 153, 154, 155, 156, 157, 158, 159, 160, 161, 162, 205] [100, 101, 102, 103, 137] → fdF (evH v) SUBN = some x → byt x → len x ≤ 2000 → TXD τ' (enR x 0 [] false) → Q 1 τ') : w_readSubject τ Q := by
  refine cstC fun C => (?_ : w_readSubject τ Q)
  refine s_readSubject (h.t_seek hL (C.wrd (n := SUBN) (by decide) (by decide) (by decide)) (ascT (by decide)) (by decide) (fun τ1 hF1 hN hV r6 => ⟨fun c9 => absurd rfl c9, fun _ => hQ0 τ1 (Fr.rf.tr hF1) hN⟩) (fun τ1 x hF1 hNx hV r6 => ⟨fun _ => ?_, fun c9 => absurd c9 (by decide)⟩))
  have hn := hV.ln
  have hb := hV.2.2
  have hbt := hV.bt
  have n0 := len_nn x
  have F1 : Fr τ τ1 [148, 150, 153, 154, 155, 156, 157, 158, 159, 160, 161, 162, 205] [100, 101, 102, 103, 137] := Fr.rf.tr hF1
  have L : ∀ (N : Nat) (j : Int) (τ2 : TT), (len x - j).toNat = N → 0 ≤ j → j ≤ len x → Fr τ1 τ2 [148] [100] → (∀ i, 0 ≤ i → i < j → τ2.2 100 i = τ1.2 137 i) → W_readSubject_16 j τ2 Q := by
    intro N
    induction N using Nat.strongRecOn with
    | ind N ih =>
      intro j τ2 hN j0 j1 hF2 hj
      refine s_readSubject_16 ?_
      rw [hF2.s 205, ← hn]
      refine fun r18 => ⟨by omega, fun c21 => ?_, fun c21 => ⟨by omega, ?_⟩⟩
      · have ej : j = len x := by omega
        rw [ej] at hj
        have hT : TAP (τ2.s 148 (len x)) x := TAP.of (by omega) rfl (fun i i0 i1 => by
          show τ2.2 100 i % 256 = _
          rw [hj i i0 i1, hV.rd ⟨i0, i1⟩])
        exact t_cWords hT (by omega) (fun τ3 hF3 hT3 _ r51 => hQ1 τ3 x ((F1.tr (hF2.ps _ _)).tr hF3) hNx hbt (by omega) hT3)
      · rw [hF2.a 137]
        refine fun r34 => ⟨by omega, ih _ (by omega) (j + 1) _ rfl (by omega) (by omega) (hF2.pa _ _ _) (fun i i0 i1 => ?_)⟩
        show up (τ2.2 100) j (τ1.2 137 j) i = _
        by_cases q : i = j
        · rw [q, up_at]
        · rw [up_ne _ q]; exact hj i i0 (by omega)
  exact L _ 0 τ1 rfl (Int.le_refl 0) n0 Fr.rf (fun i i0 i1 => absurd i1 (by omega))
theorem GOT.bt {g : List Int} (h : GOT τ g) : byt g := fun x hx => by
  rw [h.1] at hx
  obtain ⟨y, _, rfl⟩ := List.mem_map.mp hx
  show 0 ≤ _ % 256 ∧ _ % 256 < 256
  omega
theorem t_takeGot {g : List Int} {Q : TT → Prop} (h : GOT τ g) (hQ : ∀ τ', Fr τ τ' [148] [100] → TAP τ' g → Q τ') : w_takeGot τ Q := by
  have hn := h.ln
  have hb := h.2.2
  have n0 := len_nn g
  have L : ∀ (N : Nat) (j : Int) (τ2 : TT), (len g - j).toNat = N → 0 ≤ j → j ≤ len g → Fr τ τ2 [148] [100] → (∀ i, 0 ≤ i → i < j → τ2.2 100 i = τ.2 140 i) → W_takeGot_2 j τ2 Q := by
    intro N
    induction N using Nat.strongRecOn with
    | ind N ih =>
      intro j τ2 hN j0 j1 hF2 hj
      refine s_takeGot_2 ?_
      rw [hF2.s 212, ← hn]
      refine fun r4 => ⟨by omega, fun c7 => hQ _ (hF2.ps _ _) (TAP.of (by omega) rfl (fun i i0 i1 => ?_)), fun c7 => ⟨by omega, ?_⟩⟩
      · have ej : j = len g := by omega
        rw [ej] at hj
        show τ2.2 100 i % 256 = _
        rw [hj i i0 i1, h.rd ⟨i0, i1⟩]
      · rw [hF2.a 140]
        refine fun r20 => ⟨by omega, ih _ (by omega) (j + 1) _ rfl (by omega) (by omega) (hF2.pa _ _ _) (fun i i0 i1 => ?_)⟩
        show up (τ2.2 100) j (τ.2 140 j) i = _
        by_cases q : i = j
        · rw [q, up_at]
        · rw [up_ne _ q]; exact hj i i0 (by omega)
  exact s_takeGot (L _ 0 τ rfl (Int.le_refl 0) n0 Fr.rf (fun i i0 i1 => absurd i1 (by omega)))
theorem t_readName {Q : Int → TT → Prop} (h : ENH τ ls k v) (hL : LNS τ m ls)
    (hQ0 : ∀ τ', Fr τ τ' [148, 150, 154, 155, 158, 205, 206, 207, 208, 212] [100, 101, 103, 137, 138, 139, 140] → enNm (evH v) = [] → Q 0 τ')
    (hQ1 : ∀ τ', Fr τ τ' [148, 150, 154, 155, 158, 205, 206, 207, 208, 212] [100, 101, 103, 137, 138, 139, 140] → enNm (evH v) ≠ [] → byt (enNm (evH v)) → TXD τ' (utf8 (enNm (evH v))) → Q 1 τ') : w_readName k τ Q := by
  refine s_readName (t_pCalled h hL (fun τ1 hF1 hG1 => ?_))
  have hn := hG1.ln
  have hb := hG1.2.2
  have F1 : Fr τ τ1 [148, 150, 154, 155, 158, 205, 206, 207, 208, 212] [100, 101, 103, 137, 138, 139, 140] := Fr.rf.tr hF1
  generalize enNm (evH v) = g at *
  have hu := utf8_len _ g (Nat.le_refl _)
  rw [← hn]
  refine fun r6 => ⟨fun c9 => t_takeGot hG1 (fun τ2 hF2 hT2 => ?_), fun c9 => hQ0 τ1 F1 (List.eq_nil_of_length_eq_zero (by unfold len at c9; omega))⟩
  have hT2n := hT2.ln
  rw [← hT2n]
  refine fun r19 => ?_
  have e : by8 ((τ2.s 150 0).2 100) 0 (len g - 0) = g := by8_all hT2
  refine t_cReadPlain (hT2 : TAP (τ2.s 150 0) g) TXD.nil ⟨Int.le_refl 0, len_nn g, Int.le_refl _⟩ ?_ (fun τ3 hF3 hX => hQ1 τ3 (((F1.tr hF2).ps _ _).tr hF3) (fun z => c9 (by rw [z]; rfl)) hG1.bt ?_)
  · rw [e, List.nil_append]; unfold len at *; omega
  · rw [e, List.nil_append] at hX; exact hX
theorem t_charset {Q : Int → TT → Prop} (h : ENH τ ls k v) (hL : LNS τ m ls) (hQ : ∀ τ', Fr τ τ' [148, 205, 206, 207, 208, 212] [100, 137, 138, 139, 140] → Q (stX (vaP (vlF (evH v) CTY))) τ') : w_charset k τ Q := by
  refine cstC fun C => (?_ : w_charset k τ Q)
  have V0 : ∀ n : List Int, fdF (vaP []) n = none := fun n => by
    have e : vaP [] = [] := by
      unfold vaP
      have e1 : ouF ([] : List Int) 0 59 = 0 := ouF_e (l := []) (k := 0) (Int.le_refl 0)
      rw [e1, vaG, dif_neg (by decide)]
      rfl
    rw [e]; rfl
  refine s_charset (h.t_seek hL (C.wrd (n := CTY) (by decide) (by decide) (by decide)) (ascT (by decide)) (by decide) (fun τ1 hF1 hN hV r6 => ⟨fun _ => ?_, fun c9 => absurd rfl c9⟩) (fun τ1 x hF1 hN hV r6 => ⟨fun c9 => absurd c9 (by decide), fun _ => ?_⟩))
  · have e4 : stX (vaP (vlF (evH v) CTY)) = 4 := by
      rw [vlF_0 hN]
      unfold stX stN
      rw [show fdF (vaP []) CHN = none from V0 CHN]
      rfl
    have z := hQ τ1 (Fr.rf.tr hF1)
    rw [e4] at z
    exact z
  · have e := vlF_1 hN
    rw [e] at hQ
    have F1 : Fr τ τ1 [148, 205, 206, 207, 208, 212] [100, 137, 138, 139, 140] := Fr.rf.tr hF1
    refine t_pParameterOf hV ((C.wrd (id := 8) (n := CHN) (by decide) (by decide) (by decide)).fr (hF1.a 8)) (by decide) (ascT (by decide)) (by decide) (fun τ2 hF2 hN2 hG2 r22 => ⟨fun c25 => absurd rfl c25, fun _ => ?_⟩) (fun τ2 g hF2 hN2 hG2 r22 => ⟨fun _ => ?_, fun c25 => absurd c25 (by decide)⟩)
    · have e4 : stX (vaP x) = 4 := by unfold stX stN; rw [hN2]; rfl
      have z := hQ τ2 (F1.tr hF2)
      rw [e4] at z
      exact z
    · refine t_takeGot hG2 (fun τ3 hF3 hT3 => ?_)
      have hn3 := hT3.ln
      rw [← hn3]
      have eN : stN (vaP x) = csF (g.map lowB) := by unfold stN; rw [hN2]
      have z := hQ τ3 ((F1.tr hF2).tr hF3)
      refine fun r37 => t_cCharsetOf hT3 ⟨Int.le_refl 0, len_nn g, Int.le_refl _⟩ ?_
      rw [csF_low]
      unfold stX at z
      rw [eN] at z
      have hlo := csF_ge (g.map lowB)
      refine fun r40 => ⟨fun c46 => ?_, fun c46 => ?_⟩
      · rw [if_neg (by omega)] at z; exact z
      · rw [if_pos (by omega)] at z; exact z
theorem t_addByte {Q : TT → Prop} (h : TAP τ p) (hl : len p < 4200) (hc : -2147483648 ≤ c + 128 ∧ c + 128 < 2147483648) (hQ : ∀ τ', Fr τ τ' [148] [100] → TAP τ' (p ++ [c % 256]) → Q τ') : w_addByte c τ Q := by
  have hn := h.ln
  have h0 := h.2
  refine s_addByte (fun r5 => ⟨by omega, by omega, hQ _ ((Fr.rf.pa _ _ _).ps _ _) ⟨?_, ?_, ?_⟩⟩)
  · show p ++ [c % 256] = by8 (up (τ.2 100) (τ.1 148) _) 0 (τ.1 148 + 1)
    rw [by8_put (y := c % 256) _ h0.1 (by omega), ← h.1]
  · show 0 ≤ τ.1 148 + 1; omega
  · show τ.1 148 + 1 ≤ 4200; omega
end WRT
