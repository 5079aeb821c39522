/-! the twin: an entity's text is read -/
set_option maxRecDepth 100000
theorem lkI_code {t : List Int} : lkI tb_X2_coding t = if t = [98, 97, 115, 101, 54, 52] then 0 else if t = [113, 117, 111, 116, 101, 100, 45, 112, 114, 105, 110, 116, 97, 98, 108, 101] then 1 else if t = [120, 45, 117, 117, 101, 110, 99, 111, 100, 101] then 2 else -1 := rfl
theorem C9 {τ τ' : TT} {sc ar : List Int} (C : CST τ) (hF : Fr τ τ' sc ar) {id : Int} {n : List Int} (hq : (id, n) ∈ twC) (h1 : ttg id = 104) (h2 : tlen id = len n) (ha : ar.contains id = false) : WRD τ' id n := (C.wrd hq h1 h2).fr (hF.a id ha)
section WTE
variable {τ : TT} {m n p : List Int} {ls : List (List Int)} {k c e : Int} {v : Ev} {E : List Ev}
/-- the lines of a body from one on -/
def rst (ls : List (List Int)) (i t : Int) : List (List Int) := (ls.drop i.toNat).take (t - i).toNat
theorem rst_c {i t : Int} {x : List Int} (h : 0 ≤ i ∧ i < t) (hx : ls[i.toNat]? = some x) : rst ls i t = x :: rst ls (i + 1) t := by
  have hlt : i.toNat < ls.length := by
    rcases Nat.lt_or_ge i.toNat ls.length with c | c
    · exact c
    · rw [List.getElem?_eq_none c] at hx; cases hx
  have e : ls[i.toNat] = x := by rw [List.getElem?_eq_getElem hlt] at hx; exact Option.some.inj hx
  unfold rst
  rw [List.drop_eq_getElem_cons hlt, e, show (t - i).toNat = (t - (i + 1)).toNat + 1 by omega, List.take_succ_cons, show (i + 1).toNat = i.toNat + 1 by omega]
theorem rst_0 {i t : Int} (h : t ≤ i) : rst ls i t = [] := by unfold rst; rw [show (t - i).toNat = 0 by omega]; rfl
theorem len_app3 {a b X : List Int} (h : a ++ b = X) : len a ≤ len X := by rw [← h, len_app]; have := len_nn b; omega
theorem t_body {Q : TT → Prop} {cs cd : Int} {B : List Int} (hE : ENH τ ls k v) (hL : LNS τ m ls) (hbt : 0 ≤ evB v ∧ evB v ≤ evT v) (hB : B = bodF ls (evB v) (evT v)) (hl : len B ≤ 4200) (hT : TAP τ [])
    (hQ : ∀ τ', Fr τ τ' [148] [100] → TAP τ' B → W_readText_75 k cs cd (evT v) τ' Q) : W_readText_75 k cs cd (evB v) τ Q := by
  have h60 := hE.2.2.2.2.2.2.2.2.2
  have hT7 := hE.2.2.2.2.2.2.1
  have hls := hL.2.2.1
  have hm := hL.1.2.2
  have hmn := hL.1.ln
  have e125 : τ.2 125 k = evT v := hE.2.1
  have e127 : τ.2 127 k = evB v := hE.2.2.2.1
  have LI : ∀ (i : Int) (x : List Int), 0 ≤ i → i < evT v → ls[i.toNat]? = some x → ∀ (N : Nat) (j : Int) (p : List Int) (τ1 : TT), (len x - j).toNat = N → 0 ≤ j → j ≤ len x → Fr τ τ1 [148] [100] → TAP τ1 p → p ++ (x.drop j.toNat ++ jnT (rst ls (i + 1) (evT v))) = B →
      (∀ τ2 p2, Fr τ τ2 [148] [100] → TAP τ2 p2 → p2 ++ jnT (rst ls (i + 1) (evT v)) = B → W_readText_75 k cs cd (i + 1) τ2 Q) → W_readText_112 k cs cd i (τ.2 122 i + j) τ1 Q := by
    intro i x i0 i1 hx N
    have z := hL.2.2.2 i.toNat x hx
    rw [show ((i.toNat : Nat) : Int) = i by omega] at z
    obtain ⟨z1, z2, z3, z4, -⟩ := z
    have hxl : len x = τ.2 123 i - τ.2 122 i := by rw [z4, len_sub ⟨z1, z2, z3⟩]
    induction N using Nat.strongRecOn with
    | ind N ih =>
      intro j p τ1 hN j0 j1 hF hp he hgo
      refine s_readText_112 ⟨by omega, ?_⟩
      rw [hF.a 123, hF.a 121]
      refine fun r120 => ⟨by omega, fun c121 => ?_, fun c121 => ⟨by omega, fun r131 => ?_⟩⟩
      · rw [List.drop_eq_nil_of_le (by unfold len at *; omega), List.nil_append] at he
        exact hgo τ1 p hF hp he
      · have hj : j < len x := by omega
        have hg : gt x j = τ.2 121 (τ.2 122 i + j) % 256 := by
          rw [z4, gt_sub ⟨z1, z2, z3⟩ j0 (by omega)]
          exact hL.1.rd ⟨by omega, by omega⟩
        have hpl : len p + 1 ≤ len B := by
          rw [← he, drop_gt ⟨j0, hj⟩, len_app, List.cons_append, len_cons]
          have := len_nn (x.drop (j + 1).toNat ++ jnT (rst ls (i + 1) (evT v)))
          omega
        refine t_addByte hp (by omega) (by omega) (fun τ2 hF2 hp2 => ?_)
        rw [show τ.2 122 i + j + 1 = τ.2 122 i + (j + 1) by omega]
        refine ih _ (by omega) (j + 1) _ τ2 rfl (by omega) (by omega) (hF.tr hF2) hp2 ?_ hgo
        rw [← he, drop_gt ⟨j0, hj⟩, hg, List.append_assoc]
        rfl
  have LN : ∀ (N : Nat) (i : Int) (p : List Int) (τ1 : TT), (evT v - i).toNat = N → evB v ≤ i → i ≤ evT v → Fr τ τ1 [148] [100] → TAP τ1 p → ((i = evB v ∧ p = []) ∨ (evB v < i ∧ p ++ jnT (rst ls i (evT v)) = B)) → W_readText_75 k cs cd i τ1 Q := by
    intro N
    induction N using Nat.strongRecOn with
    | ind N ih =>
      intro i p τ1 hN i0 i1 hF hp hc
      rcases Int.lt_or_eq_of_le i1 with hi | hi
      rotate_left
      · have hpB : p = B := by
          rw [hi] at hc
          rcases hc with ⟨y1, y2⟩ | ⟨y1, y2⟩
          · rw [hB, y2]
            show [] = jnL (rst ls (evB v) (evT v))
            rw [rst_0 (by omega)]; rfl
          · rw [rst_0 (Int.le_refl _)] at y2
            rw [← y2]
            show p = p ++ []
            rw [List.append_nil]
        rw [hi]
        rw [hpB] at hp
        exact hQ τ1 hF hp
      have hlt : i.toNat < ls.length := by unfold lnW at hT7; omega
      obtain ⟨x, hx⟩ : ∃ x, ls[i.toNat]? = some x := ⟨_, List.getElem?_eq_getElem hlt⟩
      have hr := rst_c (ls := ls) (t := evT v) ⟨by omega, hi⟩ hx
      have z := hL.2.2.2 i.toNat x hx
      rw [show ((i.toNat : Nat) : Int) = i by omega] at z
      have GO : ∀ (p2 : List Int) (τ2 : TT), Fr τ τ2 [148] [100] → TAP τ2 p2 → p2 ++ (x ++ jnT (rst ls (i + 1) (evT v))) = B → W_readText_103 k cs cd i τ2 Q := fun p2 τ2 hF2 hp2 he2 => by
        refine s_readText_103 ⟨by omega, ?_⟩
        rw [hF2.a 122]
        refine fun r109 => ?_
        have y := LI i x (by omega) hi hx _ 0 p2 τ2 rfl (Int.le_refl 0) (len_nn x) hF2 hp2 he2 (fun τ3 p3 hF3 hp3 he3 => ih _ (by omega) (i + 1) p3 τ3 rfl (by omega) (by omega) hF3 hp3 (Or.inr ⟨by omega, he3⟩))
        rw [Int.add_zero] at y
        exact y
      refine s_readText_75 ⟨h60, ?_⟩
      rw [hF.a 125, hF.a 127, e125, e127]
      refine fun r82 => ⟨by omega, fun c83 => absurd c83 (by omega), fun c83 r93 => ⟨fun c94 => ?_, fun c94 => ?_⟩⟩
      · rcases hc with ⟨y1, y2⟩ | ⟨y1, y2⟩
        · refine GO p τ1 hF hp ?_
          rw [hB, y2]
          show x ++ _ = jnL (rst ls (evB v) (evT v))
          rw [← y1, hr]
          rfl
        · omega
      · rcases hc with ⟨y1, y2⟩ | ⟨y1, y2⟩
        · omega
        · rw [hr] at y2
          have y2 : p ++ (10 :: (x ++ jnT (rst ls (i + 1) (evT v)))) = B := y2
          have hpl : len p + 1 ≤ len B := by
            rw [← y2, len_app, len_cons]
            have := len_nn (x ++ jnT (rst ls (i + 1) (evT v)))
            omega
          refine t_addByte hp (by omega) (by decide) (fun τ2 hF2 hp2 => GO _ τ2 (hF.tr hF2) hp2 ?_)
          rw [← y2, List.append_assoc]
          rfl
  exact LN _ (evB v) [] τ rfl (Int.le_refl _) hbt.2 Fr.rf hT (Or.inl ⟨rfl, rfl⟩)
theorem OUTP.nil : OUTP (τ.s 153 0) [] := ⟨(by8_0 _ _ (Int.le_refl 0)).symm, Int.le_refl 0⟩
abbrev teS : List Int := [148, 150, 153, 154, 155, 156, 157, 158, 205, 206, 207, 208, 212, 216, 218, 229, 230]
abbrev teA : List Int := [100, 101, 102, 103, 137, 138, 139, 140, 142, 143]
theorem t_readText {Q : TT → Prop} (hE : ENH τ ls k v) (hL : LNS τ m ls) (ha : ARO τ ls v) (hbt : 0 ≤ evB v ∧ evB v ≤ evT v) (hl : len (bodF ls (evB v) (evT v)) + nzF (bodF ls (evB v) (evT v)) 0 ≤ 1890)
    (hQ : ∀ τ', Fr τ τ' teS teA → WTX τ' (evX ls v) → Q τ') : w_readText k τ Q := by
  have h60 := hE.2.2.2.2.2.2.2.2.2
  have nz := nzF_nn (l := bodF ls (evB v) (evT v)) (k := 0)
  have hdl := dcF_t (cd := enCd (evH v)) (l := bodF ls (evB v) (evT v))
  have hcs := stX_in (ct := vaP (vlF (evH v) CTY))
  have hcl := chsF_t (set := stX (vaP (vlF (evH v) CTY))) (l := dcF (enCd (evH v)) (bodF ls (evB v) (evT v)))
  have eX : evX ls v = if evTy v = HTM then pgF (tfF (chsF (stX (vaP (vlF (evH v) CTY))) (dcF (enCd (evH v)) (bodF ls (evB v) (evT v))))) else tfF (chsF (stX (vaP (vlF (evH v) CTY))) (dcF (enCd (evH v)) (bodF ls (evB v) (evT v)))) := rfl
  generalize hB : bodF ls (evB v) (evT v) = B at *
  generalize hS : stX (vaP (vlF (evH v) CTY)) = S at *
  generalize hD : dcF (enCd (evH v)) B = D at *
  have nB := len_nn B
  refine s_readText (t_charset hE hL (fun τ1 hF1 => ?_))
  rw [hS]
  intro r2
  have F1 : Fr τ τ1 teS teA := Fr.rf.tr hF1
  refine cstC fun C => (?_ : w_pFirstItem k 105 τ1 _)
  refine (hE.frF hF1).t_item (hL.frF hF1) (C.wrd (n := CTE) (by decide) (by decide) (by decide)) (ascT (by decide)) (by decide) (fun τ2 hF2 hG2 => ?_)
  have eC : (vaH (vlF (evH v) CTE)).map lowB = enCd (evH v) := rfl
  rw [eC] at hG2
  have eL : (enCd (evH v)).map lowB = enCd (evH v) := by rw [← eC, low_2]
  have F2 : Fr τ τ2 teS teA := F1.tr hF2
  -- the end: what is decoded becomes text
  have E198 : ∀ (τ3 : TT), Fr τ τ3 teS teA → TAP τ3 D → W_readText_198 k S τ3 Q := fun τ3 hF3 hT3 => by
    have hn3 := hT3.ln
    refine s_readText_198 ?_
    rw [← hn3]
    refine fun r206 => t_cTapeToSrc (hT3 : TAP (τ3.s 150 0) D) ⟨Int.le_refl 0, len_nn D, Int.le_refl _⟩ (fun τ4 hF4 hS4 => ?_)
    have e4 : by8 ((τ3.s 150 0).2 100) 0 (len D - 0) = D := by8_all hT3
    rw [e4] at hS4
    have hD8 : byt D := hT3.byt
    have l1 : len (chsF S D) ≤ 2000 := by unfold len at *; omega
    refine t_cReadAllX ⟨hcs.1, by omega⟩ hS4 ((TXD.nil (τ := τ3)).fr (hF4.s 150) (hF4.a 101)) (by rw [List.nil_append]; omega) (fun τ5 hF5 hX5 => ?_)
    rw [List.nil_append] at hX5
    refine t_takeCharacters hX5 (chsF_nn hD8) l1 (fun τ6 hF6 hW6 => ?_)
    have F6 : Fr τ τ6 teS teA := (((hF3.ps 150 0).tr hF4).tr hF5).tr hF6
    refine t_pType (hE.frF F6) (hL.frF F6) (ha.frF F6) (fun τ7 hF7 hG7 => ?_)
    refine cstC fun C7 => (?_ : w_pIsGot 111 τ7 _)
    refine t_pIsGot hG7 (C7.wrd (n := HTM) (by decide) (by decide) (by decide)) (ascT (by decide)) (by decide) ?_
    have eT : (evTy v).map lowB = evTy v := evTy_low
    rw [eT]
    have hW7 : WTX τ7 (tfF (chsF S D)) := hW6.fr (hF7.s 216) (hF7.a 142)
    have F7 := F6.tr hF7
    rw [eX] at hQ
    by_cases y : evTy v = HTM
    · rw [if_pos y] at hQ ⊢
      exact fun r231 => ⟨fun c234 => absurd c234 (by decide), fun _ => t_wPage hW7 (fun τ8 hF8 hW8 r238 => hQ τ8 (F7.tr hF8) hW8)⟩
    · rw [if_neg y] at hQ ⊢
      exact fun r231 => ⟨fun _ => hQ τ7 F7 hW7, fun c234 => absurd rfl c234⟩
  -- the coding
  have E61 : ∀ (cd : Int) (τ3 : TT), Fr τ τ3 teS teA → ((cd = 1 ∧ lkI tb_X2_coding (enCd (evH v)) = 0) ∨ (cd = 2 ∧ lkI tb_X2_coding (enCd (evH v)) = 1) ∨ (cd = 3 ∧ lkI tb_X2_coding (enCd (evH v)) = 2) ∨ (cd = 0 ∧ lkI tb_X2_coding (enCd (evH v)) = -1)) → W_readText_61 k S cd τ3 Q := fun cd τ3 hF3 hcd => by
    refine s_readText_61 ⟨h60, ?_⟩
    rw [hF3.a 127, hE.2.2.2.1]
    refine fun r72 => ?_
    have hF3' := hF3.ps 148 0
    refine t_body (hE.frF hF3') (hL.frF hF3') hbt hB.symm (by omega) ⟨(by8_0 _ _ (Int.le_refl 0)).symm, Int.le_refl 0, by show (0 : Int) ≤ 4200; decide⟩ (fun τ4 hF4 hT4 => ?_)
    have F4 : Fr τ τ4 teS teA := hF3'.tr hF4
    have hn4 := hT4.ln
    have E190 : ∀ (τ5 : TT), Fr τ4 τ5 [153, 156, 157] [102] → OUTP τ5 D → W_readText_190 k S cd τ5 Q ∨ cd = 0 := fun τ5 hF5 hO => by
      by_cases z : cd = 0
      · exact Or.inr z
      · left
        exact s_readText_190 ⟨by omega, fun c191 => absurd c191 (by omega), fun c191 => t_cOutToTape hO (by omega) (fun τ6 hF6 hT6 => E198 τ6 ((F4.tr hF5).tr hF6) hT6)⟩
    refine s_readText_75 ⟨h60, ?_⟩
    rw [F4.a 125, hE.2.1]
    refine fun r82 => ⟨by omega, fun c83 => ⟨by omega, fun c154 => ⟨fun c171 => ⟨fun c183 => ?_, fun c183 => ?_⟩, fun c171 => ?_⟩, fun c154 r160 => ?_⟩, fun c83 => absurd c83 (by omega)⟩
    · have h0 : cd = 0 ∧ lkI tb_X2_coding (enCd (evH v)) = -1 := by omega
      have eD : D = B := by rw [← hD]; unfold dcF; rw [h0.2, if_neg (by decide), if_neg (by decide), if_neg (by decide)]
      refine s_readText_190 ⟨by omega, fun c191 => E198 _ (F4.ps _ _) (by rw [eD]; exact hT4), fun c191 => absurd c191 (by omega)⟩
    · have h0 : lkI tb_X2_coding (enCd (evH v)) = 2 := by omega
      have eD : D = uuA B 0 0 := by rw [← hD]; unfold dcF; rw [h0, if_neg (by decide), if_neg (by decide), if_pos rfl]
      refine t_cUnhexAll (hT4 : TAP (τ4.s 153 0) B) OUTP.nil (by rw [List.nil_append, ← eD]; omega) (fun τ5 hF5 hO => (E190 τ5 ((Fr.rf.ps 153 0).tr hF5) ?_).resolve_right (by omega))
      rw [List.nil_append, ← eD] at hO
      exact hO
    · have h0 : lkI tb_X2_coding (enCd (evH v)) = 1 := by omega
      have eD : D = qpA B 0 := by rw [← hD]; unfold dcF; rw [h0, if_neg (by decide), if_pos rfl]
      refine t_cUnquote (hT4 : TAP (τ4.s 153 0) B) OUTP.nil (by show 0 + 2 * len B + 2 ≤ 8500; omega) (fun τ5 hF5 hO => (E190 τ5 ((Fr.rf.ps 153 0).tr hF5) ?_).resolve_right (by omega))
      rw [List.nil_append, ← eD] at hO
      exact hO
    · have h0 : lkI tb_X2_coding (enCd (evH v)) = 0 := by omega
      have eD : D = unbase 0 0 B := by rw [← hD]; unfold dcF; rw [h0, if_pos rfl]
      rw [← hn4]
      refine t_cUnbase (τ := τ4.s 153 0) (Int.le_refl 0) nB (by omega) (Int.le_refl 0) (by show 0 + (len B - 0) ≤ 8500; omega) (fun τ5 hF5 e1 e2 e3 => (E190 τ5 ((Fr.rf.ps 153 0).tr hF5) ⟨?_, e2⟩).resolve_right (by omega))
      rw [e1, by8_all (τ := τ4.s 153 0) hT4, eD]
      show _ = by8 (τ4.2 102) 0 0 ++ _
      rw [by8_0 _ _ (Int.le_refl 0)]
      rfl
  refine t_pIsGot hG2 (C9 C hF2 (id := 9) (n := [98, 97, 115, 101, 54, 52]) (by decide) (by decide) (by decide) rfl) (ascT (by decide)) (by decide) ?_
  rw [eL]
  have hlk := lkI_code (t := enCd (evH v))
  by_cases y1 : enCd (evH v) = [98, 97, 115, 101, 54, 52]
  · rw [if_pos y1] at hlk ⊢
    exact fun r20 => ⟨fun c23 => absurd c23 (by decide), fun _ => E61 1 τ2 F2 (Or.inl ⟨rfl, hlk⟩)⟩
  rw [if_neg y1] at hlk ⊢
  refine fun r20 => ⟨fun _ => ?_, fun c23 => absurd rfl c23⟩
  refine t_pIsGot hG2 (C9 C hF2 (id := 10) (n := [113, 117, 111, 116, 101, 100, 45, 112, 114, 105, 110, 116, 97, 98, 108, 101]) (by decide) (by decide) (by decide) rfl) (ascT (by decide)) (by decide) ?_
  rw [eL]
  by_cases y2 : enCd (evH v) = [113, 117, 111, 116, 101, 100, 45, 112, 114, 105, 110, 116, 97, 98, 108, 101]
  · rw [if_pos y2] at hlk ⊢
    exact fun r35 => ⟨fun c38 => absurd c38 (by decide), fun _ => E61 2 τ2 F2 (Or.inr (Or.inl ⟨rfl, hlk⟩))⟩
  rw [if_neg y2] at hlk ⊢
  refine fun r35 => ⟨fun _ => ?_, fun c38 => absurd rfl c38⟩
  refine t_pIsGot hG2 (C9 C hF2 (id := 11) (n := [120, 45, 117, 117, 101, 110, 99, 111, 100, 101]) (by decide) (by decide) (by decide) rfl) (ascT (by decide)) (by decide) ?_
  rw [eL]
  by_cases y3 : enCd (evH v) = [120, 45, 117, 117, 101, 110, 99, 111, 100, 101]
  · rw [if_pos y3] at hlk ⊢
    exact fun r50 => ⟨fun c53 => absurd c53 (by decide), fun _ => E61 3 τ2 F2 (Or.inr (Or.inr (Or.inl ⟨rfl, hlk⟩)))⟩
  rw [if_neg y3] at hlk ⊢
  exact fun r50 => ⟨fun _ => E61 0 τ2 F2 (Or.inr (Or.inr (Or.inr ⟨rfl, hlk⟩))), fun c53 => absurd rfl c53⟩
end WTE
