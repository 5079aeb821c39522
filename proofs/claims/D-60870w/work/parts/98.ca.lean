/-! the twin: references of what is loaded; a mail's date -/
set_option maxRecDepth 100000
section WRF
variable {τ : TT} {m : List Int} {ls : List (List Int)} {k i : Int} {v : Ev}
theorem idA_nil : idA [] = [] := by
  unfold idA
  rw [if_neg (by decide)]
/-- what the references of what is loaded are -/
def RFD (τ : TT) (R : List (List Int)) : Prop := τ.1 111 = lnW R ∧ (R = [] ∨ ∃ rows, PRT τ 4 rows ∧ 0 ≤ τ.1 110 ∧ τ.1 110 + lnW R ≤ lnW rows ∧ (rows.drop (τ.1 110).toNat).take R.length = R)
theorem t_references {Q : Int → TT → Prop} (h : ENH τ ls 0 v) (hL : LNS τ m ls) (hQ : ∀ τ', Fr τ τ' [110, 111, 205] [81, 82, 83, 89, 90, 91, 92, 93, 137] → RFD τ' (reF (vlF (evH v) REFS) (vlF (evH v) INRT)) → Q (lnW (reF (vlF (evH v) REFS) (vlF (evH v) INRT))) τ') : w_references τ Q := by
  refine cstC fun C => (?_ : w_references τ Q)
  have F0 : Fr τ ((τ.s 110 0).s 111 0) [110, 111, 205] [81, 82, 83, 89, 90, 91, 92, 93, 137] := (Fr.rf.ps _ _).ps _ _
  -- no references
  have NO : ∀ (τ1 : TT) (n : Int), n ≤ 0 → -100 ≤ n → Fr τ τ1 [110, 111, 205] [81, 82, 83, 89, 90, 91, 92, 93, 137] → τ1.1 110 = 0 → τ1.1 111 = 0 → idA (vlF (evH v) REFS) = [] → W_references_34 n τ1 Q := fun τ1 n hn hn2 hF e110 e111 hA => by
    have eR : reF (vlF (evH v) REFS) (vlF (evH v) INRT) = (idA (vlF (evH v) INRT)).take 1 := if_pos hA
    rw [eR] at hQ
    refine s_references_34 ⟨by omega, fun _ => ?_, fun c35 => absurd c35 (by omega)⟩
    refine (h.frF hF).t_seek (n := INRT) (hL.frF hF) ((C.wrd (by decide) (by decide) (by decide)).fr (hF.a 7)) (ascT (by decide)) (by decide) (fun τ2 hF2 hN hV r73 => ⟨fun _ => ?_, fun c => absurd rfl c⟩) (fun τ2 x hF2 hN hV r73 => ⟨fun c => absurd c (by decide), fun _ => ?_⟩)
    · have e2 : τ2.1 111 = 0 := (hF2.s 111).trans e111
      rw [e2]
      rw [vlF_0 hN, idA_nil] at hQ
      exact fun r101 => hQ τ2 (hF.tr hF2) ⟨e2, Or.inl rfl⟩
    · rw [vlF_1 hN] at hQ
      refine t_takeValue hV (fun τ3 hF3 hH => t_hIdentities hH (fun τ4 hF4 hP r86 => ?_))
      have F4 := ((hF.tr hF2).tr hF3).tr hF4
      have e110' : τ4.1 110 = 0 := by rw [hF4.s 110, hF3.s 110, hF2.s 110]; exact e110
      have l0 := lnW_nn (l := idA x)
      refine ⟨fun c89 => ?_, fun c89 => ?_⟩
      · have e : idA x = [] := List.eq_nil_of_length_eq_zero (by unfold lnW at c89; omega)
        rw [e] at hQ
        exact hQ _ (F4.ps _ _) ⟨rfl, Or.inl rfl⟩
      · have e1 : ((idA x).take 1).length = 1 := by rw [List.length_take]; unfold lnW at c89; omega
        have e2 : lnW ((idA x).take 1) = 1 := by unfold lnW; rw [e1]; rfl
        have z := hQ _ (F4.ps 111 1) ⟨by rw [e2]; rfl, Or.inr ⟨idA x, hP.frF (Fr.rf.ps 111 1 : Fr τ4 (τ4.s 111 1) [111] []), by show 0 ≤ τ4.1 110; omega, by show τ4.1 110 + _ ≤ _; omega, ?_⟩⟩
        · rw [e2] at z; exact z
        · show ((idA x).drop (τ4.1 110).toNat).take _ = _
          rw [e110', e1]; rfl
  refine s_references ((h.frF F0).t_seek (n := REFS) (hL.frF F0) ((C.wrd (by decide) (by decide) (by decide)).fr (F0.a 6)) (ascT (by decide)) (by decide) (fun τ1 hF1 hN hV r18 => ⟨fun _ => NO τ1 0 (Int.le_refl 0) (by decide) (F0.tr hF1) ((hF1.s 110).trans rfl) ((hF1.s 111).trans rfl) (by rw [vlF_0 hN]; exact idA_nil), fun c => absurd rfl c⟩) (fun τ1 x hF1 hN hV r18 => ⟨fun c => absurd c (by decide), fun _ => ?_⟩))
  have eX := vlF_1 hN
  refine t_takeValue hV (fun τ2 hF2 hH => t_hIdentities hH (fun τ3 hF3 hP r30 => ?_))
  have F3 := ((F0.tr hF1).tr hF2).tr hF3
  have l0 := lnW_nn (l := idA x)
  by_cases c : idA x = []
  · have e0 : lnW (idA x) = 0 := by rw [c]; rfl
    rw [e0]
    exact NO τ3 0 (Int.le_refl 0) (by decide) F3 (by rw [hF3.s 110, hF2.s 110, hF1.s 110]; rfl) (by rw [hF3.s 111, hF2.s 111, hF1.s 111]; rfl) (by rw [eX]; exact c)
  have l1 : 0 < lnW (idA x) := by
    rcases Int.lt_or_eq_of_le l0 with z | z
    · exact z
    · exact absurd (List.eq_nil_of_length_eq_zero (by unfold lnW at z; omega)) c
  have l2 := hP.2.1
  have eR : reF (vlF (evH v) REFS) (vlF (evH v) INRT) = (idA x).drop ((idA x).length - 8) := by rw [eX]; exact if_neg c
  rw [eR] at hQ
  have GO : ∀ s : Int, s = min (lnW (idA x)) 8 → W_references_51 (lnW (idA x)) s τ3 Q := fun s hs => by
    have e1 : lnW ((idA x).drop ((idA x).length - 8)) = s := by unfold lnW at *; rw [List.length_drop]; omega
    have z := hQ _ ((F3.ps 111 s).ps 110 (lnW (idA x) - s)) ⟨?_, Or.inr ⟨idA x, hP.frF ((Fr.rf.ps 111 s).ps 110 (lnW (idA x) - s) : Fr τ3 _ [111, 110] []), ?_, ?_, ?_⟩⟩
    · rw [e1] at z
      exact s_references_51 ⟨by omega, by omega, z⟩
    · rw [e1]; rfl
    · show 0 ≤ lnW (idA x) - s; omega
    · rw [e1]; show lnW (idA x) - s + s ≤ _; omega
    · show ((idA x).drop (lnW (idA x) - s).toNat).take _ = _
      rw [show (lnW (idA x) - s).toNat = (idA x).length - 8 by unfold lnW at *; omega]
      exact List.take_of_length_le (Nat.le_refl _)
  exact s_references_34 ⟨by omega, fun c35 => absurd c35 (by omega), fun c35 => ⟨fun c42 => GO 8 (by omega), fun c42 => GO _ (by omega)⟩⟩
theorem drF_nil : drF (woC (cuA [] 0)) = MINL := by
  have e : cuA [] 0 = [] := by rw [cuA, dif_neg (fun z => absurd z.2 (by decide))]
  rw [e]
  decide +kernel
/-- the date of what is loaded -/
theorem LDD.hd {τ : TT} {m : List Int} (h : LDD τ m) : ENH τ (lsG m 0) 0 (en (ptE m) 0) := (h.2.1.2.2 0 (Int.le_refl 0) (by have := (ptE_tr (l := m)).1; unfold lnW; omega)).1
theorem LDD.fr {τ' : TT} {sc ar : List Int} (h : LDD τ m) (hF : Fr τ τ' sc ar) (hs : ([70, 71, 181, 182, 185, 195].all fun k => !sc.contains k) = true := by rfl) (ha : ([52, 53, 54, 55, 56, 57, 58, 59, 60, 61, 121, 122, 123, 124, 125, 126, 127, 128, 129, 130].all fun k => !ar.contains k) = true := by rfl) : LDD τ' m := by
  obtain ⟨h1, h2, h3, V, n, c, h4, h5⟩ := h
  have S : ∀ L : List Int, (∀ k, k ∈ L → k ∈ ([70, 71, 181, 182, 185, 195] : List Int)) → (L.all fun k => !sc.contains k) = true := fun L hL => List.all_eq_true.mpr (fun k hk => List.all_eq_true.mp hs k (hL k hk))
  have A : ∀ L : List Int, (∀ k, k ∈ L → k ∈ ([52, 53, 54, 55, 56, 57, 58, 59, 60, 61, 121, 122, 123, 124, 125, 126, 127, 128, 129, 130] : List Int)) → (L.all fun k => !ar.contains k) = true := fun L hL => List.all_eq_true.mpr (fun k hk => List.all_eq_true.mp ha k (hL k hk))
  refine ⟨h1.frF hF (S _ (by decide)) (A _ (by decide)), h2.frF hF ?_ (A _ (by decide)), ?_, V, n, c, h4.fr hF (S _ (by decide)) (A _ (by decide)), h5⟩
  · have y := List.all_eq_true.mp hs 185 (by decide)
    simpa using y
  · rw [hF.s 195 (by have y := List.all_eq_true.mp hs 195 (by decide); simpa using y)]
    exact h3
theorem t_dateOf {Q : Int → TT → Prop} (hi : 0 ≤ i ∧ i < 200) (hv : 0 ≤ τ.2 30 i ∧ τ.2 30 i < 6000) (h : BYT τ (τ.2 30 i) m) (hok : ldOk m) (hld : τ.1 69 = τ.2 30 i → LDD τ m) (hQ : ∀ τ', Fr τ τ' ldSc ldAr → τ'.1 69 = τ.2 30 i → LDD τ' m → Q (dtF (ctH m)) τ') : w_dateOf i τ Q := by
  refine s_dateOf ⟨hi, fun r6 => t_load hv h hok hld (fun τ1 hF1 e69 hD => ?_)⟩
  refine cstC fun C => (?_ : w_seek 0 5 τ1 _)
  have eT : dtF (ctH m) = drF (woC (cuA (vlF (evH (en (ptE m) 0)) DATN) 0)) := rfl
  rw [eT] at hQ
  refine hD.hd.t_seek (n := DATN) hD.1 (C.wrd (by decide) (by decide) (by decide)) (ascT (by decide)) (by decide) (fun τ2 hF2 hN hV r16 => ⟨fun c => absurd rfl c, fun _ => ?_⟩) (fun τ2 x hF2 hN hV r16 => ⟨fun _ => ?_, fun c => absurd c (by decide)⟩)
  · rw [vlF_0 hN, drF_nil] at hQ
    exact hQ τ2 (hF1.tr hF2) ((hF2.s 69).trans e69) (hD.fr hF2)
  · rw [vlF_1 hN] at hQ
    exact t_takeValue hV (fun τ3 hF3 hH => t_hDate hH (fun τ4 hF4 r32 => hQ τ4 (((hF1.tr hF2).tr hF3).tr hF4) ((hF4.s 69).trans ((hF3.s 69).trans ((hF2.s 69).trans e69))) (((hD.fr hF2).fr hF3).fr hF4)))
end WRF
