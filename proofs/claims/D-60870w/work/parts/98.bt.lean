/-! the twin: mailboxes of a field are cut -/
set_option maxRecDepth 100000
theorem upV_at {V : Int → FdV} {f : Int} {v : FdV} : upV V f v f = v := if_pos rfl
theorem upV_up {V : Int → FdV} {f : Int} {a b : FdV} : upV (upV V f a) f b = upV V f b := by
  funext j
  unfold upV
  by_cases c : j = f
  · rw [if_pos c, if_pos c]
  · rw [if_neg c, if_neg c, if_neg c]
theorem upV_id {V : Int → FdV} {f : Int} : upV V f (V f) = V := by
  funext j
  unfold upV
  by_cases c : j = f
  · rw [if_pos c, c]
  · rw [if_neg c]
theorem mxF_nil : mxF [] = [] := by
  have e : cuA [] 0 = [] := by rw [cuA, dif_neg (fun z => absurd z.2 (by decide))]
  unfold mxF
  rw [e]
  rfl
abbrev bxS : List Int := [70, 71, 121, 127, 133, 134, 136, 137, 138, 139, 140, 148, 150, 153, 154, 155, 156, 157, 158, 159, 160, 161, 162, 205, 216, 219, 232]
abbrev bxA : List Int := [52, 53, 54, 55, 56, 57, 58, 59, 60, 61, 81, 82, 83, 84, 85, 86, 87, 88, 89, 90, 91, 92, 93, 94, 100, 101, 102, 103, 137, 142, 144, 145, 146, 147, 148, 149, 150, 151, 152, 153]
section WBX
variable {τ : TT} {m n : List Int} {ls : List (List Int)} {k f nn c w : Int} {v : Ev} {V : Int → FdV}
/-- a field's value is looked for -/
theorem ENH.t_seek {Q : Int → TT → Prop} (h : ENH τ ls k v) (hL : LNS τ m ls) (hw : WRD τ w n) (hn : ∀ c, c ∈ n → 0 ≤ c ∧ c < 128) (hnl : len n ≤ 1000)
    (hQ0 : ∀ τ', Fr τ τ' [205] [137] → fdF (evH v) n = none → VAL τ' [] → Q 0 τ') (hQ1 : ∀ τ' x, Fr τ τ' [205] [137] → fdF (evH v) n = some x → VAL τ' x → Q 1 τ') : w_seek k w τ Q := by
  refine s_seek ⟨hw.1, ?_⟩
  rw [hw.2.1]
  exact h.t_find hL hw hn hnl (fun τ' a b d r5 => hQ0 τ' a b d) (fun τ' x a b d r5 => hQ1 τ' x a b d)
theorem vlF_0 {ps : List (List Int × List Int)} (h : fdF ps n = none) : vlF ps n = [] := by unfold vlF; rw [h]
theorem vlF_1 {ps : List (List Int × List Int)} {x : List Int} (h : fdF ps n = some x) : vlF ps n = x := by unfold vlF; rw [h]
theorem t_boxes {Q : Int → TT → Prop} (h : ENH τ ls 0 v) (hL : LNS τ m ls) (hw : WRD τ w n) (hn : ∀ c, c ∈ n → 0 ≤ c ∧ c < 128) (hnl : len n ≤ 1000) (hl : len (vlF (evH v) n) ≤ 1500)
    (hQ : ∀ τ', Fr τ τ' bxS bxA → byt (vlF (evH v) n) → (mxF (vlF (evH v) n) = [] ∨ (∃ G, ADR τ' (mxF (vlF (evH v) n)) G) ∧ lnW (mxF (vlF (evH v) n)) ≤ 1000 ∧ τ'.2 90 0 ≤ 20000) → TKF τ' V nn c → Q (lnW (mxF (vlF (evH v) n))) τ') (hT : TKF τ V nn c) : w_boxes w τ Q := by
  refine s_boxes (h.t_seek hL hw hn hnl (fun τ1 hF1 hN hV r3 => ⟨fun c6 => absurd rfl c6, fun _ => ?_⟩) (fun τ1 x hF1 hN hV r3 => ⟨fun c6 => ?_, fun c6 => absurd c6 (by decide)⟩))
  · have e := vlF_0 hN
    rw [e, mxF_nil] at hQ
    exact hQ τ1 (Fr.rf.tr hF1) (fun x hx => by cases hx) (Or.inl rfl) (hT.fr hF1)
  · have e := vlF_1 hN
    rw [e] at hQ hl
    refine t_takeValue hV (fun τ2 hF2 hH => t_hAddresses hH hl (fun τ3 G hF3 hA h1000 h90 r17 => ?_))
    exact hQ τ3 (((show Fr τ τ1 bxS bxA from Fr.rf.tr hF1).tr hF2).tr hF3) hV.bt (Or.inr ⟨⟨G, hA⟩, h1000, h90⟩) (((hT.fr hF1).fr hF2).fr hF3)
theorem lnW_map {α β : Type} {g : α → β} {l : List α} : lnW (l.map g) = lnW l := by unfold lnW; rw [List.length_map]
theorem srT_c {x : Mb} {r : List Mb} : srT (x :: r) = tfF (srF x) :: srT r := rfl
theorem t_cutBoxes {Q : TT → Prop} (h : ENH τ ls 0 v) (hL : LNS τ m ls) (hw : WRD τ w n) (hn : ∀ c, c ∈ n → 0 ≤ c ∧ c < 128) (hnl : len n ≤ 1000) (hl : len (vlF (evH v) n) ≤ 1500) (hok : ∀ x, x ∈ mxF (vlF (evH v) n) → mbL x ≤ 1890) (hf : 0 ≤ f ∧ f < 5) (hT : TKF τ V nn c)
    (hb : 0 ≤ nn ∧ nn + sumL (srT (mxF (vlF (evH v) n))) ≤ 4000 ∧ 0 ≤ c ∧ c + lnW (mxF (vlF (evH v) n)) ≤ 4000)
    (hQ : ∀ τ', Fr τ τ' bxS bxA → TKF τ' (upV V f (adF false (V f) (srT (mxF (vlF (evH v) n))))) (nn + sumL (srT (mxF (vlF (evH v) n)))) (c + lnW (mxF (vlF (evH v) n))) → Q τ') : w_cutBoxes f w τ Q := by
  refine s_cutBoxes (t_boxes (V := V) (nn := nn) (c := c) h hL hw hn hnl hl (fun τ0 hF0 hby hor hT0 r2 => ?_) hT)
  have hbM := mxF_b hby
  generalize hTT : mxF (vlF (evH v) n) = T at hQ hb hor hbM hok ⊢
  have l0 := lnW_nn (l := T)
  -- the boxes
  have L : ∀ (N : Nat) (k : Int) (V1 : Int → FdV) (n1 c1 : Int) (τ1 : TT), (lnW T - k).toNat = N → 0 ≤ k → k ≤ lnW T → Fr τ0 τ1 bxS [52, 53, 54, 55, 56, 57, 58, 59, 60, 61, 100, 101, 102, 103, 142, 144, 145, 146, 147, 148, 149, 150, 151, 152, 153] → TKF τ1 V1 n1 c1 → 0 ≤ n1 → 0 ≤ c1 → n1 + sumL (srT (T.drop k.toNat)) = nn + sumL (srT T) → c1 + (lnW T - k) = c + lnW T → upV V1 f (adF false (V1 f) (srT (T.drop k.toNat))) = upV V f (adF false (V f) (srT T)) → W_cutBoxes_9 f (lnW T) k τ1 Q := by
    intro N
    induction N using Nat.strongRecOn with
    | ind N ih =>
      intro k V1 n1 c1 τ1 hN k0 k1 hF hT1 hn1 hc1 hs hc hV
      have l4 : lnW T ≤ 4000 := by omega
      refine s_cutBoxes_9 ⟨by omega, by omega, fun c12 => ?_, fun c12 => ?_⟩
      · have e : T.drop k.toNat = [] := List.drop_eq_nil_of_le (by unfold lnW at c12; omega)
        rw [e] at hs hV
        have hs : n1 + 0 = nn + sumL (srT T) := hs
        have hV : upV V1 f (V1 f) = _ := hV
        rw [upV_id] at hV
        refine hQ τ1 (hF0.tr hF) ?_
        rw [← hV, ← hs, ← hc, Int.add_zero, show c1 + (lnW T - k) = c1 by omega]
        exact hT1
      have hlt : k.toNat < T.length := by unfold lnW at c12; omega
      obtain ⟨⟨G, hA⟩, h1000, h90⟩ := hor.resolve_left (fun z => by rw [z] at hlt; exact absurd hlt (by simp))
      have hdr : T.drop k.toNat = T[k.toNat] :: T.drop (k + 1).toNat := by rw [show (k + 1).toNat = k.toNat + 1 by omega]; exact List.drop_eq_getElem_cons hlt
      have hmem : T[k.toNat] ∈ T := List.getElem_mem hlt
      have hget : T[k.toNat]? = some T[k.toNat] := List.getElem?_eq_getElem hlt
      generalize T[k.toNat] = x at hdr hmem hget
      rw [hdr, srT_c] at hs hV
      have hs : n1 + (len (tfF (srF x)) + sumL (srT (T.drop (k + 1).toNat))) = nn + sumL (srT T) := hs
      have hV : upV V1 f (adF false (fdA (tfF (srF x)) 300 false (V1 f)) (srT (T.drop (k + 1).toNat))) = upV V f (adF false (V f) (srT T)) := hV
      have hsn := sumL_nn (srT (T.drop (k + 1).toNat))
      have hsT := hb.2.1
      have hmb := hbM x hmem
      have hml : len x.1 + len x.2.1 + len x.2.2 ≤ 1890 := hok x hmem
      have a0 := len_nn x.1
      have a1 := len_nn x.2.1
      have a2 := len_nn x.2.2
      have lt1 : len (enR x.1 0 [] false) ≤ len x.1 := by
        have y := enR_t hmb.1 _ 0 [] false rfl (Int.le_refl 0)
        rw [List.length_nil] at y
        unfold len at *
        omega
      have lt2 : len (utf8 x.2.1) ≤ len x.2.1 := by have y := utf8_len _ x.2.1 (Nat.le_refl _); unfold len; omega
      have lt3 : len (utf8 x.2.2) ≤ len x.2.2 := by have y := utf8_len _ x.2.2 (Nat.le_refl _); unfold len; omega
      have R : ∀ (w : Int) (rows : List (List Int)) (r : List Int), (w = 0 ∨ w = 1 ∨ w = 2) → PRT τ0 w rows → rows[k.toNat]? = some r → RWA τ0 (1000 * w + k) r (topF τ0 w) ∧ topF τ0 w ≤ 20000 := fun w rows r hw hP hg => by
        have z := hP.2.2.2 _ _ hg
        rw [show ((k.toNat : Nat) : Int) = k by omega] at z
        refine ⟨z, ?_⟩
        have e : topF τ0 w = 6000 * 0 + τ0.2 90 0 := by
          unfold topF arF
          rw [if_pos (by omega)]
        rw [e]; omega
      have RF : ∀ (τ2 : TT) (i : Int) (r : List Int) (t : Int), Fr τ0 τ2 bxS [52, 53, 54, 55, 56, 57, 58, 59, 60, 61, 100, 101, 102, 103, 142, 144, 145, 146, 147, 148, 149, 150, 151, 152, 153] → RWA τ0 i r t → RWA τ2 i r t := fun τ2 i r t hF2 hR => by
        unfold RWA at *
        rw [hF2.a 89, hF2.a 92, hF2.a 93]
        exact hR
      obtain ⟨R0, T0⟩ := R 0 _ x.1 (Or.inl rfl) hA.1 (by rw [List.getElem?_map, hget]; rfl)
      obtain ⟨R1, T1⟩ := R 1 _ x.2.1 (Or.inr (Or.inl rfl)) hA.2.1 (by rw [List.getElem?_map, hget]; rfl)
      obtain ⟨R2, T2⟩ := R 2 _ x.2.2 (Or.inr (Or.inr rfl)) hA.2.2.1 (by rw [List.getElem?_map, hget]; rfl)
      have k1000 : 0 ≤ k ∧ k < 1000 := ⟨k0, by omega⟩
      -- the end of one
      have E78 : ∀ (τ2 : TT) (p : List Int), Fr τ0 τ2 bxS [52, 53, 54, 55, 56, 57, 58, 59, 60, 61, 100, 101, 102, 103, 142, 144, 145, 146, 147, 148, 149, 150, 151, 152, 153] → TKF τ2 V1 n1 c1 → WTX τ2 p → p ++ [tfC 32] = tfF (srF x) → W_cutBoxes_78 f (lnW T) k τ2 Q := fun τ2 p hF2 hT2 hW2 hp => by
        have hpl : len p + 1 = len (tfF (srF x)) := by rw [← hp, len_app, len_1]
        have hsl : len (tfF (srF x)) ≤ 1900 := by
          rw [tfF_len]
          unfold srF
          rw [len_app, len_app, len_app, len_1, utf8_adS]
          split
          · omega
          · rw [len_app, len_cons]; omega
        refine s_cutBoxes_78 (t_addCharacter hW2 (by omega) (by decide) (fun τ3 hF3 hW3 => ?_))
        rw [hp] at hW3
        refine t_cutSource (pB := false) hW3 (hT2.fr hF3) hf ⟨hn1, by omega, hc1, by omega⟩ (fun τ4 hF4 hT4 => ?_)
        refine ih _ (by omega) (k + 1) _ _ _ τ4 rfl (by omega) (by omega) ((hF2.tr hF3).tr hF4) hT4 (by have := len_nn (tfF (srF x)); omega) (by omega) (by omega) (by omega) ?_
        rw [upV_up, upV_at]
        exact hV
      refine t_readTitle (τ := τ1.s 216 0) (RF _ _ _ _ (hF.ps _ _) R0) k1000 T0 hmb.1 (by omega) (fun τ2 hF2 hX2 => ?_)
      have F2 : Fr τ0 τ2 bxS [52, 53, 54, 55, 56, 57, 58, 59, 60, 61, 100, 101, 102, 103, 142, 144, 145, 146, 147, 148, 149, 150, 151, 152, 153] := (hF.ps 216 0).tr hF2
      have K2 : TKF τ2 V1 n1 c1 := (hT1.fr (Fr.rf.ps _ _ : Fr τ1 (τ1.s 216 0) [216] [])).fr hF2
      have W2 : WTX τ2 [] := WTX.nil.fr (hF2.s 216) (hF2.a 142)
      refine t_addCharacters W2 hX2 (enR_nn hmb.1 _ 0 [] false rfl nnL.nil) (by show 0 + _ ≤ _; omega) (fun τ3 hF3 hW3 => ?_)
      rw [List.nil_append] at hW3
      refine t_addCharacter hW3 (by rw [tfF_len]; omega) (by decide) (fun τ4 hF4 hW4 => ?_)
      have F4 := (F2.tr hF3).tr hF4
      have K4 := (K2.fr hF3).fr hF4
      refine t_readPart (RF _ _ _ _ F4 R1) ⟨by decide, by decide, k1000.1, k1000.2⟩ T1 hmb.2.1 (by omega) (fun τ5 hF5 hX5 => ?_)
      have F5 : Fr τ0 τ5 bxS [52, 53, 54, 55, 56, 57, 58, 59, 60, 61, 100, 101, 102, 103, 142, 144, 145, 146, 147, 148, 149, 150, 151, 152, 153] := F4.tr hF5
      have K5 := K4.fr hF5
      refine t_addCharacters (hW4.fr (hF5.s 216) (hF5.a 142)) hX5 (utf8_nn _ _ (Nat.le_refl _) (nnL.b hmb.2.1)) (by rw [len_app, tfF_len, len_1]; omega) (fun τ6 hF6 hW6 => ?_)
      have F6 := F5.tr hF6
      have K6 := K5.fr hF6
      have e93 : τ6.2 93 (2000 + k) = len x.2.2 := (RF _ _ _ _ F6 R2).1
      refine ⟨by omega, ?_⟩
      rw [e93]
      refine fun r57 => ⟨fun c58 => E78 τ6 _ F6 K6 hW6 ?_, fun c58 => ?_⟩
      · have z : x.2.2 = [] := List.eq_nil_of_length_eq_zero (by unfold len at c58; omega)
        unfold srF
        rw [utf8_adS, if_pos z, tfF_app, tfF_app, tfF_app]
        rfl
      · have z : x.2.2 ≠ [] := fun y => by rw [y] at c58; exact absurd c58 (by decide)
        have l6 : len (tfF (enR x.1 0 [] false) ++ [tfC 32] ++ tfF (utf8 x.2.1)) = len (enR x.1 0 [] false) + 1 + len (utf8 x.2.1) := by rw [len_app, len_app, tfF_len, tfF_len, len_1]
        refine t_addCharacter hW6 (by omega) (by decide) (fun τ7 hF7 hW7 => ?_)
        have F7 := F6.tr hF7
        have K7 := K6.fr hF7
        refine t_readPart (RF _ _ _ _ F7 R2) ⟨by decide, by decide, k1000.1, k1000.2⟩ T2 hmb.2.2 (by omega) (fun τ8 hF8 hX8 => ?_)
        have F8 : Fr τ0 τ8 bxS [52, 53, 54, 55, 56, 57, 58, 59, 60, 61, 100, 101, 102, 103, 142, 144, 145, 146, 147, 148, 149, 150, 151, 152, 153] := F7.tr hF8
        have K8 := K7.fr hF8
        refine t_addCharacters (hW7.fr (hF8.s 216) (hF8.a 142)) hX8 (utf8_nn _ _ (Nat.le_refl _) (nnL.b hmb.2.2)) (by rw [len_app, l6, len_1]; omega) (fun τ9 hF9 hW9 => E78 τ9 _ (F8.tr hF9) (K8.fr hF9) hW9 ?_)
        unfold srF
        rw [utf8_adS, if_neg z, tfF_app, tfF_app, tfF_app, show utf8 x.2.1 ++ 64 :: utf8 x.2.2 = utf8 x.2.1 ++ [64] ++ utf8 x.2.2 by rw [List.append_assoc]; rfl, tfF_app, tfF_app]
        simp only [List.append_assoc]
        rfl
  exact L _ 0 V nn c τ0 rfl (Int.le_refl 0) l0 Fr.rf hT0 hb.1 hb.2.2.1 rfl (by omega) rfl
end WBX
