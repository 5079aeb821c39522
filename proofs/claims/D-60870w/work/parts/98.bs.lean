/-! the twin: values taken, parts of addresses read, characters put into the text -/
set_option maxRecDepth 100000
section WAC
variable {τ : TT} {l m v r : List Int} {c k w n top : Int}
theorem t_takeValue {Q : TT → Prop} (h : VAL τ v) (hQ : ∀ τ', Fr τ τ' [] [81, 82, 83] → HVAL τ' v → Q τ') : w_takeValue τ Q := by
  have hn := h.ln
  have hb := h.2.2
  have hbt := h.bt
  have n0 := len_nn v
  have L : ∀ (N : Nat) (j : Int) (τ1 : TT), (len v - j).toNat = N → 0 ≤ j → j ≤ len v → Fr τ τ1 [] [81, 82, 83] → (∀ i, 0 ≤ i → i < j → τ1.2 83 i = gt v i) → W_takeValue_2 j τ1 Q := by
    intro N
    induction N using Nat.strongRecOn with
    | ind N ih =>
      intro j τ1 hN j0 j1 hF hj
      refine s_takeValue_2 ?_
      rw [hF.s 205, ← hn]
      refine fun r4 => ⟨by omega, fun c7 => hQ _ ((hF.pa _ _ _).pa _ _ _) ⟨?_, ?_, ?_, hbt, by omega⟩, fun c7 => ⟨by omega, ?_⟩⟩
      · show up (τ1.2 81) 0 0 0 = 0; rw [up_at]
      · show up (τ1.2 82) 0 (len v) 0 = len v; rw [up_at]
      · have e : j = len v := by omega
        rw [e] at hj
        exact seg_of hj
      · rw [hF.a 137]
        refine fun r20 => ⟨by omega, ih _ (by omega) (j + 1) _ rfl (by omega) (by omega) (hF.pa _ _ _) (fun i i0 i1 => ?_)⟩
        show up (τ1.2 83) j (τ.2 137 j % 256) i = _
        by_cases q : i = j
        · rw [q, up_at, h.rd ⟨j0, c7⟩]
        · rw [up_ne _ q]; exact hj i i0 (by omega)
  exact s_takeValue (L _ 0 τ rfl (Int.le_refl 0) n0 Fr.rf (fun i i0 i1 => absurd i1 (by omega)))
/-- the tape holds what was written byte by byte -/
theorem TAP.of (hl : len r ≤ 4200) (h1 : τ.1 148 = len r) (h2 : ∀ i, 0 ≤ i → i < len r → τ.2 100 i % 256 = gt r i) : TAP τ r := by
  have n0 := len_nn r
  refine ⟨?_, by omega, by omega⟩
  rw [h1]
  refine list_ext ?_ (fun i i0 i1 => ?_)
  · show len r = ((by8 (τ.2 100) 0 (len r)).length : Int)
    rw [by8_len]; omega
  · rw [by8_gt i0 i1, h2 i i0 i1]
theorem t_fetch {Q : Int → TT → Prop} (h : RWA τ (1000 * w + k) r top) (hw : 0 ≤ w ∧ w < 7 ∧ 0 ≤ k ∧ k < 1000) (ht : top ≤ 20000) (hr : byt r) (hl : len r ≤ 4200) (hQ : ∀ τ', Fr τ τ' [148] [100] → TAP τ' r → Q (len r) τ') : w_fetch w k τ Q := by
  obtain ⟨a1, a2, a3, a4⟩ := h
  have n0 := len_nn r
  have rd : ∀ i, 0 ≤ i → i < len r → τ.2 89 (τ.2 92 (1000 * w + k) + i) = gt r i := fun i i0 i1 => by
    have z : r = seg (fun j => τ.2 89 (τ.2 92 (1000 * w + k) + j)) 0 (len r) := a4.trans (seg_eq (fun j j0 j1 => by show _ = τ.2 89 (_ + (0 + j)); rw [Int.zero_add]))
    have y := seg_gt (f := fun j => τ.2 89 (τ.2 92 (1000 * w + k) + j)) (n := len r) i0 i1
    rw [← z] at y
    exact y.symm
  have L : ∀ (N : Nat) (j : Int) (τ1 : TT), (len r - j).toNat = N → 0 ≤ j → j ≤ len r → Fr τ τ1 [148] [100] → (∀ i, 0 ≤ i → i < j → τ1.2 100 i % 256 = gt r i) → W_fetch_16 w k (len r) j τ1 Q := by
    intro N
    induction N using Nat.strongRecOn with
    | ind N ih =>
      intro j τ1 hN j0 j1 hF hj
      refine s_fetch_16 ⟨by omega, by omega, fun c19 => hQ _ (hF.ps _ _) (TAP.of hl rfl ?_), fun c19 => ⟨by omega, ?_⟩⟩
      · have e : j = len r := by omega
        rw [e] at hj
        exact hj
      · rw [hF.a 92, hF.a 89]
        refine fun r43 => ⟨by omega, ?_⟩
        rw [rd j j0 c19]
        refine fun r47 => ⟨by omega, ih _ (by omega) (j + 1) _ rfl (by omega) (by omega) (hF.pa _ _ _) (fun i i0 i1 => ?_)⟩
        show up (τ1.2 100) j _ i % 256 = _
        by_cases q : i = j
        · have hb := hr _ (gt_mem j0 c19)
          rw [q, up_at]; omega
        · rw [up_ne _ q]; exact hj i i0 (by omega)
  refine s_fetch ⟨by omega, ?_⟩
  rw [a1]
  exact fun r11 => L _ 0 τ rfl (Int.le_refl 0) n0 Fr.rf (fun i i0 i1 => absurd i1 (by omega))
theorem t_readTitle {Q : TT → Prop} (h : RWA τ (1000 * 0 + k) r top) (hw : 0 ≤ k ∧ k < 1000) (ht : top ≤ 20000) (hr : byt r) (hl : len r ≤ 4000) (hQ : ∀ τ', Fr τ τ' [148, 150, 153, 154, 155, 156, 157, 158, 159, 160, 161, 162] [100, 101, 102, 103] → TXD τ' (enR r 0 [] false) → Q τ') : w_readTitle k τ Q := by
  refine s_readTitle (t_fetch h ⟨by decide, by decide, hw.1, hw.2⟩ ht hr (by omega) (fun τ1 hF1 hT1 r3 => t_cWords hT1 hl (fun τ2 hF2 hT2 _ r8 => hQ τ2 ?_ hT2)))
  exact (show Fr τ τ1 [148, 150, 153, 154, 155, 156, 157, 158, 159, 160, 161, 162] [100, 101, 102, 103] from Fr.rf.tr hF1).tr hF2
theorem by8_all {τ : TT} {l : List Int} (h : TAP τ l) : by8 (τ.2 100) 0 (len l - 0) = l := by rw [Int.sub_zero, h.ln]; exact h.1.symm
theorem TXD.nil : TXD (τ.s 150 0) [] := ⟨rfl, Int.le_refl 0⟩
theorem t_readPart {Q : TT → Prop} (h : RWA τ (1000 * w + k) r top) (hw : 0 ≤ w ∧ w < 7 ∧ 0 ≤ k ∧ k < 1000) (ht : top ≤ 20000) (hr : byt r) (hl : len r ≤ 4000) (hQ : ∀ τ', Fr τ τ' [148, 150, 154, 155, 158] [100, 101, 103] → TXD τ' (utf8 r) → Q τ') : w_readPart w k τ Q := by
  have hu := utf8_len _ r (Nat.le_refl _)
  refine s_readPart (t_fetch h hw ht hr (by omega) (fun τ1 hF1 hT1 r3 => ?_))
  have hT2 : TAP (τ1.s 150 0) r := hT1
  have e : by8 ((τ1.s 150 0).2 100) 0 (len r - 0) = r := by8_all hT1
  refine t_cReadPlain hT2 TXD.nil ⟨Int.le_refl 0, len_nn r, Int.le_refl _⟩ ?_ (fun τ2 hF2 hX => hQ τ2 ?_ ?_)
  · rw [e, List.nil_append]; unfold len at *; omega
  · exact ((show Fr τ τ1 [148, 150, 154, 155, 158] [100, 101, 103] from Fr.rf.tr hF1).ps _ _).tr hF2
  · rw [e, List.nil_append] at hX; exact hX
theorem WTX.put (h : WTX τ l) (hl : len l < 2000) (hc : 0 ≤ c ∧ c < 65536) : WTX ((τ.a 142 (τ.1 216) c).s 216 (τ.1 216 + 1)) (l ++ [c]) := by
  obtain ⟨h1, h2, h3⟩ := h
  have hn := WTX.ln ⟨h1, h2, h3⟩
  refine ⟨?_, ⟨by show 0 ≤ τ.1 216 + 1; omega, by show τ.1 216 + 1 ≤ 2000; omega⟩, fun x hx => (List.mem_append.mp hx).elim (h3 x) (fun z => by rw [List.mem_singleton.mp z]; exact hc)⟩
  show l ++ [c] = seg (up (τ.2 142) (τ.1 216) c) 0 (τ.1 216 + 1)
  rw [seg_put _ h2.1, ← h1]
theorem t_addCharacter {Q : TT → Prop} (h : WTX τ l) (hl : len l < 2000) (hc : 0 ≤ c ∧ c < 2147483648) (hQ : ∀ τ', Fr τ τ' [216] [142] → WTX τ' (l ++ [tfC c]) → Q τ') : w_addCharacter c τ Q := by
  have hn := h.ln
  have n0 := len_nn l
  have hP : ∀ x, 0 ≤ x ∧ x < 65536 → tfC c = x → W_addCharacter_33 x (τ.1 216) τ Q := fun x hx e => by
    refine s_addCharacter_33 ⟨by omega, by omega, fun r36 => ⟨by omega, hQ _ ((Fr.rf.pa _ _ _).ps _ _) ?_⟩⟩
    rw [e]
    exact h.put hl hx
  refine s_addCharacter (fun r1 => ⟨fun c7 => ⟨by omega, fun c23 => hP c (by omega) (by rw [tfC_lo hc.1, if_neg (by omega)]), fun c23 => hP 65533 (by decide) (by rw [tfC_lo hc.1, if_pos (by omega)])⟩, fun c7 => absurd c7 (by omega)⟩)
theorem TXD.rd (h : TXD τ m) (hk : 0 ≤ k ∧ k < len m) : τ.2 101 k = gt m k := by
  have z := seg_gt (f := τ.2 101) (n := τ.1 150) hk.1 (by rw [← h.ln]; exact hk.2)
  rw [← h.1] at z
  exact z.symm
theorem t_addCharacters {Q : TT → Prop} (h : WTX τ l) (hT : TXD τ m) (hm : nnL m) (hl : len l + len m ≤ 2000) (hQ : ∀ τ', Fr τ τ' [216] [142] → WTX τ' (l ++ tfF m) → Q τ') : w_addCharacters τ Q := by
  have nm := len_nn m
  have nl := len_nn l
  have L : ∀ (N : Nat) (j : Int) (p : List Int) (τ1 : TT), (len m - j).toNat = N → 0 ≤ j → j ≤ len m → Fr τ τ1 [216] [142] → WTX τ1 p → len p = len l + j → p ++ tfF (m.drop j.toNat) = l ++ tfF m → W_addCharacters_2 j τ1 Q := by
    intro N
    induction N using Nat.strongRecOn with
    | ind N ih =>
      intro j p τ1 hN j0 j1 hF hp hlp he
      have hT1 : TXD τ1 m := hT.fr (hF.s 150) (hF.a 101)
      have hn := hT1.ln
      refine s_addCharacters_2 ?_
      rw [← hn]
      refine fun r4 => ⟨by omega, fun c7 => ?_, fun c7 => ⟨by omega, ?_⟩⟩
      · rw [List.drop_eq_nil_of_le (by unfold len at c7; omega)] at he
        have he2 : p = l ++ tfF m := by rw [← he]; show p = p ++ []; rw [List.append_nil]
        rw [he2] at hp
        exact hQ τ1 hF hp
      · rw [hT1.rd ⟨j0, c7⟩]
        refine fun r16 => t_addCharacter hp (by omega) ⟨hm.gnn, r16.2⟩ (fun τ2 hF2 hp2 => ih _ (by omega) (j + 1) _ τ2 rfl (by omega) (by omega) (hF.tr hF2) hp2 ?_ ?_)
        · rw [len_app, len_1]; omega
        · rw [← he, drop_gt ⟨j0, c7⟩, List.append_assoc]
          rfl
  exact s_addCharacters (L _ 0 l τ rfl (Int.le_refl 0) nm Fr.rf h (by omega) rfl)
theorem WTX.nil : WTX (τ.s 216 0) [] := ⟨rfl, ⟨Int.le_refl 0, by show (0 : Int) ≤ 2000; decide⟩, fun x hx => by cases hx⟩
theorem t_takeCharacters {Q : TT → Prop} (hT : TXD τ m) (hm : nnL m) (hl : len m ≤ 2000) (hQ : ∀ τ', Fr τ τ' [216] [142] → WTX τ' (tfF m) → Q τ') : w_takeCharacters τ Q := by
  refine s_takeCharacters (t_addCharacters (l := []) WTX.nil (hT : TXD (τ.s 216 0) m) hm (by show 0 + len m ≤ 2000; omega) (fun τ1 hF1 hW => hQ τ1 ((Fr.rf.ps _ _).tr hF1) ?_))
  rw [List.nil_append] at hW
  exact hW
end WAC
