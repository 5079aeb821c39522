/-! the twin: a row is cut; a source is cut -/
set_option maxRecDepth 100000
/-- what of the tokens stands in a field -/
def flP (g : Int) (ts : List (Int × Pc)) : List Pc := ts.filterMap (fun t => if t.1 = g then some t.2 else none)
theorem flP_app {g f : Int} {ts : List (Int × Pc)} {ps : List Pc} : flP g (ts ++ ps.map (fun p => (f, p))) = flP g ts ++ (if g = f then ps else []) := by
  unfold flP
  rw [List.filterMap_append]
  congr 1
  induction ps with
  | nil => split <;> rfl
  | cons p r ih =>
    rw [List.map_cons, List.filterMap_cons]
    by_cases c : f = g
    · rw [if_pos c]
      dsimp only
      rw [ih, if_pos c.symm, if_pos c.symm]
    · rw [if_neg c]
      dsimp only
      rw [ih, if_neg (fun z => c z.symm), if_neg (fun z => c z.symm)]
theorem ltS_map1 {f : Int} {p : Pc} {r : List Pc} : ltS ((p :: r).map (fun p => (f, p))) = tkL p + ltS (r.map (fun p => (f, p))) := rfl
theorem pcF_L {l : List Int} {a e pl : Int} (ha : 0 ≤ a ∧ a ≤ e ∧ e ≤ len l) : tkL (pcF (smT l a e) pl) ≤ 2 * (e - a) := by
  have h1 := smT_ln (l := l) ha
  have h2 := stW_len (w := smT l a e)
  have n0 := len_nn (smT l a e)
  unfold tkL pcF
  dsimp only
  split
  · rename_i h
    rw [if_pos h.2]
    omega
  · omega
/-- how many letters a row takes -/
theorem rwG_L {l : List Int} {f : Int} : ∀ (N : Nat) (b pl : Int) (ad : Bool), (len l - b).toNat = N → 0 ≤ b → b < len l → ltS ((rwG l b pl ad).1.map (fun p => (f, p))) ≤ 2 * ((rwG l b pl ad).2.1 - b) := by
  intro N
  induction N using Nat.strongRecOn with
  | ind N ih =>
    intro b pl ad hN b0 b1
    have h2 := scn_ge (p := wpB) (l := l) (k := b)
    have h3 := scn_le (p := wpB) (l := l) b b0 (by omega)
    have hp := pcF_L (l := l) (a := b) (e := scn wpB l b) (pl := pl) ⟨b0, h2, h3⟩
    by_cases h : 0 ≤ b ∧ scn wpB l b < len l ∧ moB l (scn wpB l b) = true
    · have hg := mo_go h.2.2 (by omega)
      have IH := ih _ (by omega) (scn wpB l b + 1) (pl + 1) (ad || jnB l (scn wpB l b)) rfl (by omega) hg.1
      rw [rwG_y h]
      dsimp only
      rw [ltS_map1]
      omega
    · rw [rwG_n h]
      dsimp only
      rw [ltS_map1]
      show _ + 0 ≤ _
      omega
theorem ins1_L {f : Int} {x : Pc} : ∀ {ps : List Pc}, ltS ((ins1 x ps).map (fun p => (f, p))) ≤ tkL x + ltS (ps.map (fun p => (f, p)))
  | [] => by show tkL x + 0 ≤ tkL x + 0; omega
  | p :: r => by show tkL p + (tkL x + ltS (r.map (fun p => (f, p)))) ≤ tkL x + (tkL p + ltS (r.map (fun p => (f, p)))); omega
theorem roP_L {l : List Int} {f k pl : Int} (h0 : 0 ≤ k) (h1 : k < len l) (hw : chWP (gt l k)) : ltS ((roP l k pl).map (fun p => (f, p))) ≤ 3 * (roE l k pl - k) := by
  have hin := rwG_in (l := l) _ k pl false rfl h0 h1 (wpB_c.mpr hw)
  have hL := rwG_L (l := l) (f := f) _ k pl false rfl h0 h1
  have hs := smT_ln (l := l) (a := k) (e := (rwG l k pl false).2.1) ⟨h0, by omega, hin.2.1⟩
  unfold roP roE
  split
  · refine Int.le_trans ins1_L ?_
    have e : tkL (smT l k (rwG l k pl false).2.1, ([] : List Int), pl, true) = len (smT l k (rwG l k pl false).2.1) := by
      unfold tkL
      rw [if_neg (fun z => absurd z.1 (show ¬ (true = false) by decide))]
      dsimp only
      omega
    rw [e]
    omega
  · omega
section WRO
variable {τ : TT} {l : List Int} {a e f pl n : Int} {ts : List (Int × Pc)}
theorem t_cutRow {Q : Int → TT → Prop} (h : WTX τ l) (hT : TKS τ ts) (ha : 0 ≤ a ∧ a < len l) (hw : chWP (gt l a)) (he : roE l a pl = e) (hf : 0 ≤ f ∧ f < 5) (hp : 0 ≤ pl ∧ pl ≤ 100000) (h61 : 0 ≤ τ.2 61 f ∧ τ.2 61 f ≤ 100000)
    (hb : ((ts ++ (roP l a pl).map (fun p => (f, p))).length : Int) ≤ 9000 ∧ ltS (ts ++ (roP l a pl).map (fun p => (f, p))) ≤ 169900)
    (hQ : ∀ τ', Fr τ τ' [70, 71, 232] [52, 53, 54, 55, 56, 57, 58, 59, 61, 149, 150, 151, 152, 153] → TKS τ' (ts ++ (roP l a pl).map (fun p => (f, p))) → τ'.2 61 = up (τ.2 61) f (τ.2 61 f + roN l a pl) → Q (roN l a pl) τ') : w_cutRow f a e pl τ Q := by
  have hs := h.2.1
  have hn := h.ln
  have hin := rwG_in (l := l) _ a pl false rfl ha.1 ha.2 (wpB_c.mpr hw)
  have heR : (rwG l a pl false).2.1 = e := he
  have hRN : ((rwG l a pl false).1.length : Int) = roN l a pl := rfl
  rw [heR] at hin
  obtain ⟨in1, in2, in3, in4⟩ := hin
  have MOR : ∀ (ts1 : List (Int × Pc)) (p : Pc) (us : List (Int × Pc)), ts1 ++ ((f, p) :: us) = ts ++ (roP l a pl).map (fun p => (f, p)) → (ts1.length : Int) < 9000 ∧ ltS ts1 ≤ 169900 := fun ts1 p us z => by
    rw [← z, List.length_append, List.length_cons, ltS_app] at hb
    have y := ltS_nn (ts := (f, p) :: us)
    omega
  generalize hTS : ts ++ (roP l a pl).map (fun p => (f, p)) = TS at *
  have FIN : ∀ (k n : Int) (τ1 : TT), e ≤ k → k ≤ 5000 → n = roN l a pl → Fr τ τ1 [70, 71, 232] [52, 53, 54, 55, 56, 57, 58, 59, 61, 149, 150, 151, 152, 153] → τ1.2 61 = τ.2 61 → TKS τ1 TS → W_cutRow_6 f a e pl n k τ1 Q := fun k n τ1 k0 k1 hnn hF e61 hTK => by
    refine s_cutRow_6 ⟨by omega, by omega, fun c9 => ⟨by omega, ?_⟩, fun c9 => by omega⟩
    rw [e61]
    refine fun r78 => ⟨by omega, by omega, ?_⟩
    rw [hnn]
    refine hQ _ (hF.pa _ _ _) (hTK.fr (Fr.rf.pa _ _ _ : Fr τ1 _ [] [61])) ?_
    show up (τ1.2 61) f _ = _
    rw [e61]
  have NX : ∀ (N : Nat) (b n : Int) (ad : Bool) (ts2 : List (Int × Pc)) (τ2 : TT), (e - b).toNat = N → a ≤ b → b < e → 0 ≤ n → chWP (gt l b) → (rwG l b (pl + n) ad).2.1 = e → Fr τ τ2 [70, 71, 232] [52, 53, 54, 55, 56, 57, 58, 59, 61, 149, 150, 151, 152, 153] → τ2.2 61 = τ.2 61 → TKS τ2 ts2 →
      ts2 ++ ((rwG l b (pl + n) ad).1.tail.map (fun p => (f, p))) = TS → n + ((rwG l b (pl + n) ad).1.length : Int) = roN l a pl → W_cutRow_60 f a e pl n (scn wpB l b) τ2 Q := by
    intro N
    induction N using Nat.strongRecOn with
    | ind N ih =>
      intro b n ad ts2 τ2 hN b0 b1 n0 hb1 hE hF e61 hTK hTL hLN
      have hst := scn_step (p := wpB) (l := l) ⟨by omega, by omega⟩ (wpB_c.mpr hb1)
      have hge := scn_ge (p := wpB) (l := l) (k := b + 1)
      have hle := rwG_ge (l := l) (b := b) (pl := pl + n) (ad := ad) (by omega) (by omega)
      rw [hE] at hle
      refine s_cutRow_60 ?_
      by_cases hc : 0 ≤ b ∧ scn wpB l b < len l ∧ moB l (scn wpB l b) = true
      · have hg := mo_go hc.2.2 (by omega)
        have hin2 := rwG_in (l := l) _ (scn wpB l b + 1) (pl + n + 1) (ad || jnB l (scn wpB l b)) rfl (by omega) hg.1 (wpB_c.mpr hg.2)
        rw [rwG_y hc] at hE hTL hLN
        dsimp only at hE hTL hLN
        rw [hE] at hin2
        obtain ⟨i1, i2, i3, i4⟩ := hin2
        rw [List.tail_cons] at hTL
        rw [List.length_cons] at hLN
        generalize hs1 : scn wpB l b = s at *
        have hW2 : WTX τ2 l := h.fr (hF.s 216) (hF.a 142)
        have hst2 := scn_ge (p := wpB) (l := l) (k := s + 1)
        have hst3 := scn_step (p := wpB) (l := l) ⟨by omega, hg.1⟩ (wpB_c.mpr hg.2)
        have hst4 := scn_ge (p := wpB) (l := l) (k := s + 1 + 1)
        have hle2 := rwG_ge (l := l) (b := s + 1) (pl := pl + n + 1) (ad := ad || jnB l s) (by omega) hg.1
        rw [hE] at hle2
        obtain ⟨tl, htl⟩ : ∃ tl, (rwG l (s + 1) (pl + n + 1) (ad || jnB l s)).1 = pcF (smT l (s + 1) (scn wpB l (s + 1))) (pl + n + 1) :: tl := by
          by_cases hc2 : 0 ≤ s + 1 ∧ scn wpB l (s + 1) < len l ∧ moB l (scn wpB l (s + 1)) = true
          · rw [rwG_y hc2]; exact ⟨_, rfl⟩
          · rw [rwG_n hc2]; exact ⟨_, rfl⟩
        have hTL' := hTL
        rw [htl, List.map_cons] at hTL'
        have hmb := MOR ts2 _ _ hTL'
        have hnl : n + 1 ≤ roN l a pl := by rw [htl, List.length_cons] at hLN; omega
        refine s_cutRow_6 ⟨by omega, by omega, fun c9 => absurd c9 (by omega), fun c9 => t_wPieceEnd hW2 ⟨by omega, by omega, in2⟩ (fun r16 => ?_)⟩
        rw [show min e (scn wpB l (s + 1)) = scn wpB l (s + 1) by omega]
        refine t_addToken hW2 hTK ⟨by omega, by omega, by omega⟩ (Or.inl rfl) hf ⟨by omega, by omega⟩ hmb (fun τ3 hF3 hTK3 => ⟨by omega, fun c38 => ?_, fun c38 => absurd c38 (by omega)⟩)
        refine ih _ (by omega) (s + 1) (n + 1) (ad || jnB l s) _ τ3 rfl (by omega) (by omega) (by omega) hg.2 ?_ (hF.tr hF3) ((hF3.a 61).trans e61) hTK3 ?_ ?_
        · rw [← Int.add_assoc]; exact hE
        · rw [← Int.add_assoc, htl, List.tail_cons, ← hTL', List.append_assoc]
          rfl
        · rw [← Int.add_assoc]; omega
      · rw [rwG_n hc] at hE hTL hLN
        dsimp only at hE hTL hLN
        rw [List.tail_cons, List.map_nil, List.append_nil] at hTL
        rw [List.length_singleton] at hLN
        rw [hTL] at hTK
        exact FIN _ _ τ2 (by omega) (by omega) (by omega) hF e61 hTK
  have hst := scn_step (p := wpB) (l := l) ha (wpB_c.mpr hw)
  have hge := scn_ge (p := wpB) (l := l) (k := a + 1)
  have hle := rwG_ge (l := l) (b := a) (pl := pl) (ad := false) ha.1 ha.2
  rw [heR] at hle
  obtain ⟨tl, htl⟩ : ∃ tl, (rwG l a pl false).1 = pcF (smT l a (scn wpB l a)) pl :: tl := by
    by_cases hc2 : 0 ≤ a ∧ scn wpB l a < len l ∧ moB l (scn wpB l a) = true
    · rw [rwG_y hc2]; exact ⟨_, rfl⟩
    · rw [rwG_n hc2]; exact ⟨_, rfl⟩
  have hR0 : rwG l a (pl + 0) false = rwG l a pl false := by rw [Int.add_zero]
  have hP : roP l a pl = if (rwG l a pl false).2.2 = true then pcF (smT l a (scn wpB l a)) pl :: (smT l a e, [], pl, true) :: tl else pcF (smT l a (scn wpB l a)) pl :: tl := by
    unfold roP
    rw [htl, heR]; rfl
  refine s_cutRow (s_cutRow_6 ⟨by omega, by omega, fun c9 => absurd c9 (by omega), fun c9 => t_wPieceEnd h ⟨ha.1, by omega, in2⟩ (fun r16 => ?_)⟩)
  rw [show min e (scn wpB l a) = scn wpB l a by omega]
  have hb0 : (ts.length : Int) < 9000 ∧ ltS ts ≤ 169900 := by
    by_cases hz : (rwG l a pl false).2.2 = true
    · rw [hP, if_pos hz, List.map_cons] at hTS; exact MOR ts _ _ hTS
    · rw [hP, if_neg hz, List.map_cons] at hTS; exact MOR ts _ _ hTS
  refine t_addToken h hT ⟨ha.1, by omega, by omega⟩ (Or.inl rfl) hf ⟨by omega, by omega⟩ hb0 (fun τ1 hF1 hTK1 => ⟨by omega, fun c38 => absurd rfl c38, fun c38 => ?_⟩)
  have hW1 : WTX τ1 l := h.fr (hF1.s 216) (hF1.a 142)
  have hF1' : Fr τ τ1 [70, 71, 232] [52, 53, 54, 55, 56, 57, 58, 59, 61, 149, 150, 151, 152, 153] := Fr.rf.tr hF1
  have hk0 : tkP l a (scn wpB l a) (pl + 0) 0 = pcF (smT l a (scn wpB l a)) pl := by rw [Int.add_zero]; rfl
  rw [hk0] at hTK1
  refine t_wIsAddress (pl := pl) hW1 ha hw he.symm (fun hz r44 => ⟨fun c0 => absurd c0 (by decide), fun _ => ?_⟩) (fun hz r44 => ⟨fun _ => ?_, fun c0 => absurd rfl c0⟩)
  · rw [hP, if_pos hz, List.map_cons, List.map_cons] at hTS
    have hb1 := MOR (ts ++ [(f, pcF (smT l a (scn wpB l a)) pl)]) _ _ (by rw [← hTS, List.append_assoc]; rfl)
    refine t_addToken hW1 hTK1 ⟨ha.1, by omega, by omega⟩ (Or.inr rfl) hf ⟨by omega, by omega⟩ hb1 (fun τ2 hF2 hTK2 => ?_)
    refine NX _ a 0 false _ τ2 rfl (Int.le_refl a) (by omega) (Int.le_refl 0) hw (by rw [hR0]; exact heR) (hF1'.tr hF2) ((hF2.a 61).trans (hF1.a 61)) hTK2 ?_ (by rw [hR0, Int.zero_add]; exact hRN)
    rw [hR0, htl, List.tail_cons, ← hTS, List.append_assoc, List.append_assoc]
    rfl
  · rw [hP, if_neg hz, List.map_cons] at hTS
    refine NX _ a 0 false _ τ1 rfl (Int.le_refl a) (by omega) (Int.le_refl 0) hw (by rw [hR0]; exact heR) hF1' (hF1.a 61) hTK1 ?_ (by rw [hR0, Int.zero_add]; exact hRN)
    rw [hR0, htl, List.tail_cons, ← hTS, List.append_assoc]
    rfl
end WRO
