/-! the twin: addresses whole -/
set_option maxRecDepth 100000
section ADA
variable {τ : TT} {W : List Wo} {a b : Int}
theorem t_hBeginGroup {T : List Mb} {G : List (List Int)} {Q : TT → Prop} (hz : HWZ τ W) (ha : 0 ≤ a ∧ a ≤ b ∧ b ≤ lnW W) (hA : ADR τ T G) (hG : lnW G < 1000) (hb : τ.2 90 0 + wsR W a b < 20000) (h134 : 0 ≤ τ.1 134 ∧ τ.1 134 < 100000) (h133 : 0 ≤ τ.1 133 ∧ τ.1 133 < 100000)
    (hQ : ∀ τ' r, Fr τ τ' [133, 134] [89, 90, 91, 92, 93] → ADR τ' T (G ++ [r]) → τ'.2 90 0 ≤ τ.2 90 0 + wsR W a b → τ'.1 134 ≤ τ.1 134 + 1 → 0 ≤ τ'.1 134 → τ'.1 133 = τ.1 133 + 1 → Q τ') : w_hBeginGroup a b τ Q := by
  have hl := hz.2.2
  have hws := wsR_nn (W := W) (b := b) _ a rfl
  have a3 : arF 3 = 0 := rfl
  have tp0 : ∀ (τ2 : TT), topF τ2 3 = τ2.2 90 0 := fun τ2 => by unfold topF; rw [a3]; omega
  have KP : ∀ (τ1 τ2 : TT), ADR τ1 T G → PKp τ1 τ2 3 → ∀ r, PRT τ2 3 (G ++ [r]) → ADR τ2 T (G ++ [r]) := fun τ1 τ2 hA1 hP r hR =>
    ⟨hP.prt (by decide) (by decide) hA1.1, hP.prt (by decide) (by decide) hA1.2.1, hP.prt (by decide) (by decide) hA1.2.2.1, hR⟩
  have W55 : ∀ (τ2 : TT) r, Fr τ τ2 [133, 134] [89, 90, 91, 92, 93] → ADR τ2 T (G ++ [r]) → τ2.2 90 0 ≤ τ.2 90 0 + wsR W a b → τ2.1 134 ≤ τ.1 134 + 1 → 0 ≤ τ2.1 134 → τ2.1 133 = τ.1 133 → W_hBeginGroup_55 τ2 Q := fun τ2 r hF hA2 h90 e1 e2 e3 =>
    s_hBeginGroup_55 fun r57 => ⟨by omega, hQ _ r (hF.ps _ _) (hA2.frF (fr_s 133 _)) h90 e1 e2 (by show τ2.1 133 + 1 = _; omega)⟩
  have W31 : ∀ (nm : Int) (τ1 : TT), (nm = 0 ∨ nm = 1) → Fr τ τ1 [133, 134] [] → τ1.1 134 ≤ τ.1 134 + 1 → 0 ≤ τ1.1 134 → τ1.1 133 = τ.1 133 → W_hBeginGroup_31 a b nm τ1 Q := fun nm τ1 hnm hF e1 e2 e3 => by
    have hA1 : ADR τ1 T G := hA.frF hF
    have hz1 : HWZ τ1 W := hz.frF hF
    have e90 : τ1.2 90 = τ.2 90 := hF.a 90
    refine s_hBeginGroup_31 ⟨by omega, fun c32 => t_hBeginPart (by omega) hA1.2.2.2 hG (by rw [tp0, e90]; omega) fun τ2 hP2 hO2 h2 => t_hEndPart (by omega) hO2 fun τ3 hP3 hR3 h3 => ?_, fun c32 => t_hMakeName (by omega) hz1 ha hA1.2.2.2 hG (by rw [tp0, e90]; omega) fun τ2 hP2 hR2 h2 => ?_⟩
    · have hP := hP2.tr hP3
      rw [a3] at h2 h3
      rw [e90] at h2
      refine W55 τ3 _ ((Fr.rf.tr hF).tr hP.1) (KP τ1 τ3 hA1 hP _ hR3) (by omega) ?_ ?_ ?_
      · rw [hP.1.s 134]; exact e1
      · rw [hP.1.s 134]; exact e2
      · rw [hP.1.s 133]; exact e3
    · rw [a3, e90] at h2
      refine W55 τ2 _ ((Fr.rf.tr hF).tr hP2.1) (KP τ1 τ2 hA1 hP2 _ hR2) (by omega) ?_ ?_ ?_
      · rw [hP2.1.s 134]; exact e1
      · rw [hP2.1.s 134]; exact e2
      · rw [hP2.1.s 133]; exact e3
  refine s_hBeginGroup (t_hIsName hz ha fun r3 => ⟨fun c8 => W31 _ τ (by split <;> omega) Fr.rf (by omega) (by omega) rfl, fun c8 => t_hNext hz ⟨ha.1, by omega⟩ ⟨by omega, by omega⟩ fun r14 => ⟨by omega, fun c18 => W31 _ τ (by split <;> omega) Fr.rf (by omega) (by omega) rfl, fun c18 r23 => ⟨by omega, W31 _ _ (by split <;> omega) (Fr.rf.ps _ _) ?_ ?_ rfl⟩⟩⟩)
  · show τ.1 134 + 1 ≤ _; omega
  · show 0 ≤ τ.1 134 + 1; omega
/-- the comment so far -/
def ctF (W : List Wo) (a k : Int) : List Int := if fl W a k = [] then [] else cmF W a k
theorem lcF_s : ∀ (N : Nat) (j k : Int) (c : List Int), (k - j).toNat = N → j ≤ k → lcF W j (k + 1) c = if (wo W k).1 = 13 then (wo W k).2 else lcF W j k c := by
  intro N
  induction N using Nat.strongRecOn with
  | ind N ih =>
    intro j k c hN hj
    by_cases z : j = k
    · subst z
      rw [lcF.eq_1 W j (j + 1), dif_pos (by omega), lcF.eq_1 W (j + 1), dif_neg (by omega), lcF.eq_1 W j j, dif_neg (by omega)]
    · rw [lcF.eq_1 W j (k + 1), dif_pos (by omega), lcF.eq_1 W j k, dif_pos (by omega), ih (k - (j + 1)).toNat (by omega) (j + 1) k _ rfl (by omega)]
theorem fl_s {k : Int} (h : a ≤ k) : fl W a (k + 1) = fl W a k ++ (if (wo W k).1 = 13 then [] else [wo W k]) := by
  rw [fl_app (W := W) (e := k) (b := k + 1) _ a rfl h (by omega)]
  by_cases c : (wo W k).1 = 13
  · rw [fl_1c c, if_pos c]
  · rw [fl_1 c, if_neg c]
theorem nx_s {k : Int} (h : a ≤ k) (hn : fl W a k ≠ []) : nxW W a (k + 1) = nxW W a k := by
  have G : ∀ (N : Nat) (j : Int), (k - j).toNat = N → j ≤ k → fl W j k ≠ [] → nxW W j (k + 1) = nxW W j k := by
    intro N
    induction N using Nat.strongRecOn with
    | ind N ih =>
      intro j hN hj hne
      by_cases z : j < k
      · by_cases c : (wo W j).1 = 13
        · rw [fl_c z c] at hne
          rw [nx_c (by omega) c, nx_c z c]
          exact ih (k - (j + 1)).toNat (by omega) (j + 1) rfl (by omega) hne
        · rw [nx_n (by omega) c, nx_n z c]
      · rw [fl_end (by omega)] at hne; exact absurd rfl hne
  exact G _ a rfl h hn
theorem ctF_s {k : Int} (h : a ≤ k) : ctF W a (k + 1) = if (wo W k).1 = 13 then (if fl W a k = [] then ctF W a k else (wo W k).2) else ctF W a k := by
  have hs := fl_s (W := W) h
  obtain ⟨x1, x2, x3, x4, x5⟩ := nx_all (W := W) (b := k) _ a rfl
  by_cases hn : fl W a k = []
  · have e0 : ctF W a k = [] := if_pos hn
    rw [e0]
    by_cases c : (wo W k).1 = 13
    · rw [if_pos c, if_pos hn]
      rw [hn, if_pos c] at hs
      exact if_pos hs
    · rw [if_neg c]
      rw [hn, if_neg c] at hs
      unfold ctF cmF
      rw [hs, if_neg (by simp)]
      have hk : nxW W a (k + 1) = k := by
        obtain ⟨y1, y2, y3, y4, y5⟩ := nx_all (W := W) (b := k + 1) _ a rfl
        by_cases w : nxW W a (k + 1) < k
        · have q := fl_app (W := W) (e := nxW W a (k + 1) + 1) (b := k) _ a rfl (by omega) (by omega)
          have q2 := fl_app (W := W) (e := nxW W a (k + 1)) (b := nxW W a (k + 1) + 1) _ a rfl y1 (by omega)
          rw [fl_1 (y3 (by omega))] at q2
          rw [hn, q2] at q
          exact absurd q (by simp)
        · by_cases w2 : k < nxW W a (k + 1)
          · exact absurd (y5 k h w2) c
          · omega
      rw [hk, lcF, dif_neg (by omega)]
  · have e0 : ctF W a k = cmF W a k := if_neg hn
    have hn2 : fl W a (k + 1) ≠ [] := by rw [hs]; intro z; exact hn (List.append_eq_nil_iff.mp z).1
    have e1 : ctF W a (k + 1) = cmF W a (k + 1) := if_neg hn2
    have y : nxW W a k < k := by
      by_cases w : nxW W a k < k
      · exact w
      · exact absurd (fl_no (by omega)) hn
    rw [e0, e1]
    unfold cmF
    rw [nx_s h hn, lcF_s _ _ k _ rfl (by omega), if_neg hn]
theorem mbF_ct {W : List Wo} {a k : Int} : mbF (fl W a k) (cmF W a k) = mbF (fl W a k) (ctF W a k) := by
  by_cases hn : fl W a k = []
  · rw [hn]; rfl
  · rw [show ctF W a k = cmF W a k from if_neg hn]
theorem hwc_0 {w : Wo} (h : w.1 = 13) (c : Int) : ¬ isG w c := fun z => by have := z.1; omega
def nwWi (w : Wo) (wi : Int) : Int := if isG w 60 ∧ wi = 0 then 1 else if isG w 62 then 0 else wi
theorem nw_ad {k wi : Int} {r : List Wo} (ha : a ≤ k) (hwi : wi = 0 ∨ wi = 1) (hne : ¬ (nwWi (wo W k) wi = 0 ∧ (isG (wo W k) 58 ∨ isG (wo W k) 44 ∨ isG (wo W k) 59))) :
    adR (wo W k :: r) (fl W a k) (ctF W a k) wi = adR r (fl W a (k + 1)) (ctF W a (k + 1)) (nwWi (wo W k) wi) := by
  have hflS := fl_s (W := W) ha
  have hctS := ctF_s (W := W) ha
  generalize wo W k = w at *
  rw [hflS, hctS]
  show (if w.1 = 13 then _ else _) = _
  by_cases c : w.1 = 13
  · have e : nwWi w wi = wi := by unfold nwWi; rw [if_neg (fun q => hwc_0 c 60 q.1), if_neg (hwc_0 c 62)]
    rw [if_pos c, if_pos c, if_pos c, List.append_nil, e]
  · rw [if_neg c, if_neg c, if_neg c]
    have n1 : ¬ (wi = 0 ∧ (isG w 44 ∨ isG w 59 ∨ isG w 58)) := fun q => hne (by
      have s60 : ¬ isG w 60 := fun y => by have := y.2; rcases q.2 with x | x | x <;> (have := x.2; omega)
      have s62 : ¬ isG w 62 := fun y => by have := y.2; rcases q.2 with x | x | x <;> (have := x.2; omega)
      refine ⟨by unfold nwWi; rw [if_neg (fun y => s60 y.1), if_neg s62]; exact q.1, ?_⟩
      rcases q.2 with x | x | x
      · exact Or.inr (Or.inl x)
      · exact Or.inr (Or.inr x)
      · exact Or.inl x)
    rw [if_neg n1]
    congr 1
    unfold nwWi
    rcases hwi with x | x
    · rw [if_pos x]
      by_cases y : isG w 60
      · rw [if_pos y, if_pos (show isG w 60 ∧ wi = 0 from ⟨y, x⟩)]
      · rw [if_neg y, if_neg (show ¬ (isG w 60 ∧ wi = 0) from fun q => y q.1)]
        split
        · rfl
        · exact x.symm
    · rw [if_neg (show ¬ wi = 0 by omega), if_neg (show ¬ (isG w 60 ∧ wi = 0) from fun q => by have := q.2; omega)]
      split
      · rfl
      · exact x.symm
/-- signs < and > within a stretch -/
def hwTw (W : List Wo) (a k wi : Int) : Prop := k ≤ lnW W → (wi = 0 → ∀ i, a ≤ i → i < k → isG (wo W i) 60 → ∃ m, i < m ∧ m < k ∧ isG (wo W m) 62) ∧ (wi = 1 → ∃ i, a ≤ i ∧ i < k ∧ isG (wo W i) 60 ∧ ∀ m, i < m → m < k → ¬ isG (wo W m) 62)
theorem nw_hw {k wi : Int} (ha : a ≤ k) (hk : k < lnW W) (h : hwTw W a k wi) : hwTw W a (k + 1) (nwWi (wo W k) wi) := by
  obtain ⟨h0, h1⟩ := h (by omega)
  intro _
  refine ⟨fun z i i0 i1 hi => ?_, fun z => ?_⟩
  · by_cases y : i = k
    · rw [y] at hi
      by_cases x : wi = 0
      · unfold nwWi at z
        rw [if_pos ⟨hi, x⟩] at z; exact absurd z (by decide)
      · have n62 : ¬ isG (wo W k) 62 := fun q => by have := q.2; have := hi.2; omega
        unfold nwWi at z
        rw [if_neg (fun q => x q.2), if_neg n62] at z; exact absurd z x
    · by_cases x : wi = 0
      · obtain ⟨m, m1, m2, m3⟩ := h0 x i i0 (by clear h0 h1; omega) hi
        exact ⟨m, m1, by clear h0 h1; omega, m3⟩
      · by_cases y2 : isG (wo W k) 62
        · exact ⟨k, by clear h0 h1; omega, by clear h0 h1; omega, y2⟩
        · unfold nwWi at z
          rw [if_neg (fun q => x q.2), if_neg y2] at z; exact absurd z x
  · by_cases x : isG (wo W k) 60 ∧ wi = 0
    · exact ⟨k, ha, by clear h0 h1; omega, x.1, fun m m0 m1 => absurd m1 (by clear h0 h1; omega)⟩
    · have n62 : ¬ isG (wo W k) 62 := fun q => by unfold nwWi at z; rw [if_neg x, if_pos q] at z; exact absurd z (by decide)
      unfold nwWi at z
      rw [if_neg x, if_neg n62] at z
      obtain ⟨i, i0, i1, i2, i3⟩ := h1 z
      refine ⟨i, i0, by clear h0 h1 i3; omega, i2, fun m m0 m1 => ?_⟩
      by_cases y : m = k
      · rw [y]; exact n62
      · exact i3 m m0 (by clear h0 h1 i3; omega)
set_option maxHeartbeats 8000000 in
theorem t_hAddresses {v : List Int} {Q : Int → TT → Prop} (h : HVAL τ v) (hv : len v ≤ 1500)
    (hQ : ∀ τ' G, Fr τ τ' [121, 127, 133, 134, 136, 137, 138, 139, 140] [84, 85, 86, 87, 88, 89, 90, 91, 92, 93, 94] → ADR τ' (adR (cuA v 0) [] [] 0) G → lnW (adR (cuA v 0) [] [] 0) ≤ 1000 → τ'.2 90 0 ≤ 20000 → Q (lnW (adR (cuA v 0) [] [] 0)) τ') : w_hAddresses 0 τ Q := by
  have hok := cuA_ok (l := v) _ 0 rfl (Int.le_refl 0)
  have n0 := len_nn v
  have hcnt : lnW (cuA v 0) ≤ 1500 := by have := hok.2.1; unfold lnW; omega
  have hws : wsR (cuA v 0) 0 (lnW (cuA v 0)) ≤ 3004 := by
    have y := wsR_all (W := cuA v 0) _ 0 rfl (Int.le_refl 0)
    have z := hok.2.2
    rw [y]
    show wsum (cuA v 0) ≤ 3004
    omega
  generalize hW : cuA v 0 = W at hQ hcnt hws
  generalize hR : adR W [] [] 0 = R at hQ
  have l0 := lnW_nn (l := W)
  have FRS : ∀ τ1 : TT, τ1 = τ1 := fun _ => rfl
  -- the loop
  have L : ∀ (N : Nat) (k a gr wi : Int) (T : List Mb) (G : List (List Int)) (τ1 : TT), (lnW W + 1 - k).toNat = N → 0 ≤ a → a ≤ k → k ≤ lnW W + 1 → (k = lnW W + 1 → a = k) → (wi = 0 ∨ wi = 1) → -1 ≤ gr → gr < 100000 → HWZ τ1 W → ADR τ1 T G → Fr τ τ1 [121, 127, 133, 134, 136, 137, 138, 139, 140] [84, 85, 86, 87, 88, 89, 90, 91, 92, 93, 94] →
      2 * lnW T ≤ a → 2 * lnW G ≤ a + (if gr = -1 then 0 else 1) → τ1.2 90 0 ≤ 5 * wsR W 0 (min a (lnW W)) → (0 ≤ τ1.1 134 ∧ τ1.1 134 ≤ a) → (0 ≤ τ1.1 133 ∧ τ1.1 133 ≤ a) →
      (k ≤ lnW W → T ++ adR (W.drop k.toNat) (fl W a k) (ctF W a k) wi = R) → (k = lnW W + 1 → T = R) →
      hwTw W a k wi → W_hAddresses_33 gr a wi k τ1 Q := by
    intro N
    induction N using Nat.strongRecOn with
    | ind N ih =>
      intro k a gr wi T G τ1 hN a0 a1 k1 hka hwi hgr hgr2 hz hA hF hT hG h90 h134 h133 hI hI2 hwt
      have e121 : τ1.1 121 = lnW W := hz.1.1.symm
      have t0 := lnW_nn (l := T)
      have g0 := lnW_nn (l := G)
      refine s_hAddresses_33 fun r36 => ?_
      rw [e121]
      refine ⟨by omega, fun c39 r270 => ?_, fun c39 => ?_⟩
      · have e91 : τ1.2 91 1 = lnW R := by
          rw [hA.2.1.1, ← hI2 (by omega)]
          unfold lnW; rw [List.length_map]
        rw [e91]
        rw [hI2 (by omega)] at hA hT
        exact hQ τ1 G hF hA (by omega) (by rw [show min a (lnW W) = lnW W by have := hka (by omega); omega] at h90; omega)
      have hgc : lnW G ≤ 751 := by split at hG <;> omega
      -- the end of a stretch
      have wA := wsR_app (W := W) (e := min a (lnW W)) (b := lnW W) _ 0 rfl (by omega) (by omega)
      have wB := wsR_app (W := W) (e := k) (b := lnW W) _ a rfl a1 c39
      have wC := wsR_app (W := W) (e := a) (b := k) _ 0 rfl a0 a1
      have wN1 := (wsR_nn (W := W) (b := lnW W) _ k rfl).1
      have wN2 := (wsR_nn (W := W) (b := k) _ a rfl).1
      have wN3 := (wsR_nn (W := W) (b := a) _ 0 rfl).1
      rw [show min a (lnW W) = a by omega] at h90 wA
      -- behind a stretch
      have W254 : ∀ (gr2 wi2 : Int) (T2 : List Mb) (G2 : List (List Int)) (τ2 : TT), (wi2 = 0 ∨ wi2 = 1) → (k < lnW W → wi2 = 0) → -1 ≤ gr2 → gr2 < 100000 → HWZ τ2 W → ADR τ2 T2 G2 → Fr τ τ2 [121, 127, 133, 134, 136, 137, 138, 139, 140] [84, 85, 86, 87, 88, 89, 90, 91, 92, 93, 94] →
          2 * lnW T2 ≤ k + 1 → 2 * lnW G2 ≤ k + 1 + (if gr2 = -1 then 0 else 1) → τ2.2 90 0 ≤ 5 * wsR W 0 k → (0 ≤ τ2.1 134 ∧ τ2.1 134 ≤ k + 1) → (0 ≤ τ2.1 133 ∧ τ2.1 133 ≤ k + 1) → (k < lnW W → T2 ++ adR (W.drop (k + 1).toNat) [] [] 0 = R) → (k = lnW W → T2 = R) → W_hAddresses_254 gr2 wi2 k τ2 Q := by
        intro gr2 wi2 T2 G2 τ2 hwi2 hwi3 hg2 hg3 hz2 hA2 hF2 hT2 hG2 h902 q1 q2 hI3 hI4
        refine s_hAddresses_254 (ih (lnW W + 1 - (k + 1)).toNat (by omega) (k + 1) (k + 1) gr2 wi2 T2 G2 τ2 rfl (by omega) (Int.le_refl _) (by omega) (fun _ => rfl) hwi2 hg2 hg3 hz2 hA2 hF2 hT2 hG2 ?_ q1 q2 (fun z => ?_) (fun z => hI4 (by omega)) (fun z => ⟨fun _ i i0 i1 => absurd i1 (by omega), fun y => absurd y ?_⟩))
        · have wD := wsR_app (W := W) (e := k) (b := min (k + 1) (lnW W)) _ 0 rfl (by omega) (by omega)
          have wE := (wsR_nn (W := W) (b := min (k + 1) (lnW W)) _ k rfl).1
          omega
        · rw [fl_end (Int.le_refl _), show ctF W (k + 1) (k + 1) = [] from if_pos (fl_end (Int.le_refl _)), hwi3 (by omega)]
          exact hI3 (by omega)
        · have := hwi3 (by omega); omega
      replace hI := hI c39
      have W236 : ∀ (gr2 l6 wi2 : Int) (T2 : List Mb) (G2 : List (List Int)) (τ2 : TT), ((l6 = 0 ∧ k < lnW W) ∨ (l6 = 1 ∧ k = lnW W)) → (wi2 = 0 ∨ wi2 = 1) → (k < lnW W → wi2 = 0) → -1 ≤ gr2 → gr2 < 100000 → HWZ τ2 W → ADR τ2 T2 G2 → Fr τ τ2 [121, 127, 133, 134, 136, 137, 138, 139, 140] [84, 85, 86, 87, 88, 89, 90, 91, 92, 93, 94] →
          2 * lnW T2 ≤ k + 1 → 2 * lnW G2 ≤ k + 1 + (if gr2 = -1 then 0 else 1) → (isG (wo W k) 59 → 2 * lnW G2 ≤ k + 1) → τ2.2 90 0 ≤ 5 * wsR W 0 k → (0 ≤ τ2.1 134 ∧ τ2.1 134 ≤ k + 1) → (0 ≤ τ2.1 133 ∧ τ2.1 133 ≤ k + 1) → (k < lnW W → T2 ++ adR (W.drop (k + 1).toNat) [] [] 0 = R) → (k = lnW W → T2 = R) → W_hAddresses_236 gr2 wi2 k l6 τ2 Q := by
        intro gr2 l6 wi2 T2 G2 τ2 hl6 p1 p2 p3 p4 p5 p6 p7 p8 p9 p9b p10 p11 p12 p13 p14
        refine s_hAddresses_236 ⟨by omega, fun c238 => W254 gr2 wi2 T2 G2 τ2 p1 p2 p3 p4 p5 p6 p7 p8 p9 p10 p11 p12 p13 p14, fun c238 => t_hIs p5 ⟨by omega, by omega⟩ (by omega) fun r246 => ⟨fun c249 => W254 gr2 wi2 T2 G2 τ2 p1 p2 p3 p4 p5 p6 p7 p8 p9 p10 p11 p12 p13 p14, fun c249 => ?_⟩⟩
        have y : isG (wo W k) 59 := Classical.byContradiction fun y => c249 (if_neg y)
        exact W254 (-1) wi2 T2 G2 τ2 p1 p2 (Int.le_refl _) (by decide) p5 p6 p7 p8 (by rw [if_pos rfl]; have := p9b y; omega) p10 p11 p12 p13 p14
      -- a mailbox is taken
      have TAKE : ∀ (l6 : Int), ((l6 = 0 ∧ k < lnW W) ∨ (l6 = 1 ∧ k = lnW W)) → (k < lnW W → wi = 0) → (k < lnW W → (T ++ (mbF (fl W a k) (ctF W a k)).toList) ++ adR (W.drop (k + 1).toNat) [] [] 0 = R) → (k = lnW W → T ++ (mbF (fl W a k) (ctF W a k)).toList = R) → W_hAddresses_208 gr a wi k l6 0 τ1 Q := by
        intro l6 hl6 hwz hI3 hI4
        refine s_hAddresses_208 ⟨by decide, fun _ => t_hTakeMailbox hz ⟨a0, a1, c39⟩ hA (by omega) (by omega) hwi ⟨by omega, by omega⟩ (by omega) (hwt c39).1 (hwt c39).2 fun τ2 hF2 hA2 h902 e1 e2 => ?_, fun c => absurd rfl c⟩
        have hF12 : Fr τ τ2 [121, 127, 133, 134, 136, 137, 138, 139, 140] [84, 85, 86, 87, 88, 89, 90, 91, 92, 93, 94] := hF.tr hF2
        have hTl : 2 * lnW (T ++ (mbF (fl W a k) (cmF W a k)).toList) ≤ k + 1 := by
          rw [lnW_app]
          by_cases z : a = k
          · rw [z, fl_end (Int.le_refl _)]
            show 2 * (lnW T + 0) ≤ k + 1
            omega
          · have q : lnW (mbF (fl W a k) (cmF W a k)).toList ≤ 1 := by
              cases mbF (fl W a k) (cmF W a k) with
              | none => exact (by decide : (0 : Int) ≤ 1)
              | some _ => exact Int.le_refl 1
            omega
        have e133 : τ2.1 133 = τ1.1 133 := hF2.s 133
        refine W236 gr l6 wi _ G τ2 hl6 hwi hwz hgr hgr2 (hz.frF hF2) hA2 hF12 hTl (by split at hG <;> (split <;> omega)) (fun _ => by split at hG <;> omega) (by omega) ⟨e2, by omega⟩ (by omega) (fun z => ?_) (fun z => ?_)
        · rw [mbF_ct]; exact hI3 z
        · rw [mbF_ct]; exact hI4 z
      by_cases hlast : k = lnW W
      · -- the last
        refine ⟨fun c48 => absurd hlast c48, fun c48 => s_hAddresses_56 ⟨by decide, fun _ => s_hAddresses_85 ⟨by decide, fun _ => s_hAddresses_104 ⟨by decide, fun _ => s_hAddresses_129 (s_hAddresses_130 ⟨by decide, fun _ => s_hAddresses_169 (s_hAddresses_174 ⟨by decide, fun c => absurd c (by decide), fun _ => ⟨by decide, fun _ => TAKE 1 (Or.inr ⟨rfl, hlast⟩) (fun z => absurd z (by omega)) (fun z => absurd z (by omega)) (fun _ => ?_), fun c => absurd rfl c⟩⟩), fun c => absurd c (by decide)⟩), fun c => absurd c (by decide)⟩, fun c => absurd c (by decide)⟩, fun c => absurd c (by decide)⟩⟩
        rw [← hI, List.drop_eq_nil_of_le (by unfold lnW at hlast; omega)]
        show _ = T ++ endF (fl W a k) (ctF W a k) 44
        unfold endF
        rw [if_neg (by decide)]
      have hk : 0 ≤ k ∧ k < lnW W := ⟨by omega, by omega⟩
      have hdrop : W.drop k.toNat = wo W k :: W.drop (k + 1).toNat := by
        have hlt : k.toNat < W.length := by have := hk.2; unfold lnW at this; omega
        have e := wo_get (us := W) (k := k) hk
        rw [List.getElem?_eq_getElem hlt] at e
        rw [List.drop_eq_getElem_cons hlt, Option.some.inj e, show (k + 1).toNat = k.toNat + 1 by omega]
      rw [hdrop] at hI
      have hwad := fun hne => nw_ad (W := W) (r := W.drop (k + 1).toNat) a1 hwi hne
      have hwhw := nw_hw (W := W) a1 hk.2 hwt
      have hn01 : nwWi (wo W k) wi = 0 ∨ nwWi (wo W k) wi = 1 := by unfold nwWi; split; exact Or.inr rfl; split; exact Or.inl rfl; exact hwi
      have hnwi : nwWi (wo W k) wi = if isG (wo W k) 60 ∧ wi = 0 then 1 else if isG (wo W k) 62 then 0 else wi := rfl
      generalize hnw : nwWi (wo W k) wi = nwi at *
      generalize hwk : wo W k = w at *
      -- no end
      have NEXT : ¬ (nwi = 0 ∧ (isG w 58 ∨ isG w 44 ∨ isG w 59)) → W_hAddresses_33 gr a nwi (k + 1) τ1 Q := fun hne =>
        ih (lnW W + 1 - (k + 1)).toNat (by omega) (k + 1) a gr nwi T G τ1 rfl a0 (by omega) (by omega) (fun z => absurd z (by omega)) hn01 hgr hgr2 hz hA hF hT hG (by rw [show min a (lnW W) = a by omega]; exact h90) h134 h133 (fun _ => by rw [← hI, hwad hne]) (fun z => absurd z (by omega)) hwhw
      have SG60 : ∀ c, (c = 58 ∨ c = 44 ∨ c = 59) → isG w c → ¬ isG w 60 ∧ ¬ isG w 62 := fun c hc h2 => ⟨fun y => by have := y.2; have := h2.2; omega, fun y => by have := y.2; have := h2.2; omega⟩
      have WI : ∀ c, (c = 58 ∨ c = 44 ∨ c = 59) → isG w c → nwi = wi := fun c hc h2 => by
        obtain ⟨y1, y2⟩ := SG60 c hc h2
        rw [hnwi, if_neg (fun q => y1 q.1), if_neg y2]
      have ADE : ∀ c, (c = 58 ∨ c = 44 ∨ c = 59) → isG w c → nwi = 0 → (T ++ (if c = 58 then [] else (mbF (fl W a k) (ctF W a k)).toList)) ++ adR (W.drop (k + 1).toNat) [] [] 0 = R := fun c hc h2 hn => by
        have hw00 : wi = 0 := (WI c hc h2).symm.trans hn
        have e : adR (w :: W.drop (k + 1).toNat) (fl W a k) (ctF W a k) wi = endF (fl W a k) (ctF W a k) (gt w.2 0) ++ adR (W.drop (k + 1).toNat) [] [] 0 := by
          show (if w.1 = 13 then _ else if wi = 0 ∧ (isG w 44 ∨ isG w 59 ∨ isG w 58) then _ else _) = _
          rw [if_neg (by rw [h2.1]; decide), if_pos ⟨hw00, by rcases hc with z | z | z <;> (rw [z] at h2; first | exact Or.inl h2 | exact Or.inr (Or.inl h2) | exact Or.inr (Or.inr h2))⟩]
        rw [← hI, e, List.append_assoc]
        unfold endF
        rw [h2.2]
      have W174 : ∀ cl : Int, (cl = 0 ∨ cl = 1) → nwi = 0 → (cl = 1 → isG w 58) → (cl = 0 → isG w 44 ∨ isG w 59) → W_hAddresses_174 gr a nwi k 0 cl 1 τ1 Q := by
        intro cl hcl hn h1 h2
        refine s_hAddresses_174 ⟨by decide, fun c => absurd c (by decide), fun _ => ⟨by omega, fun c183 => ?_, fun c183 => ?_⟩⟩
        · obtain ⟨c, hc, hcw⟩ : ∃ c, (c = 44 ∨ c = 59) ∧ isG w c := (h2 c183).elim (fun y => ⟨44, Or.inl rfl, y⟩) (fun y => ⟨59, Or.inr rfl, y⟩)
          have hw00 : nwi = wi := WI c (Or.inr hc) hcw
          have z := ADE c (Or.inr hc) hcw hn
          rw [if_neg (by omega)] at z
          rw [c183, hw00]
          exact TAKE 0 (Or.inl ⟨rfl, hk.2⟩) (fun _ => by omega) (fun _ => z) (fun y => absurd y hlast)
        · have hcw := h1 (by omega)
          have z := ADE 58 (Or.inl rfl) hcw hn
          rw [if_pos rfl, List.append_nil] at z
          have n59 : ¬ isG w 59 := fun y => by have := y.2; have := hcw.2; omega
          refine ⟨by omega, fun c188 => s_hAddresses_208 ⟨by omega, fun c => absurd c c183, fun _ r215 => ⟨by omega, ?_⟩⟩, fun c188 => ?_⟩
          · refine W236 gr 0 nwi T G _ (Or.inl ⟨rfl, hk.2⟩) hn01 (fun _ => hn) hgr hgr2 (hz.frF (fr_s 134 (τ1.1 134 + 1))) (hA.frF (fr_s 134 (τ1.1 134 + 1))) (hF.ps _ _) (by omega) (by split at hG <;> (split <;> omega)) (fun y => absurd y n59) ?_ ?_ ?_ (fun _ => z) (fun y => absurd y hlast)
            · show τ1.2 90 0 ≤ _; omega
            · show 0 ≤ τ1.1 134 + 1 ∧ τ1.1 134 + 1 ≤ _; omega
            · show 0 ≤ τ1.1 133 ∧ τ1.1 133 ≤ _; omega
          · rw [if_pos c188] at hG
            refine t_hBeginGroup hz ⟨a0, a1, c39⟩ hA (by omega) (by omega) ⟨by omega, by omega⟩ ⟨by omega, by omega⟩ fun τ2 r hF2 hA2 h902 e1 e2 e3 r199 => ?_
            have hG2 : lnW (G ++ [r]) = lnW G + 1 := by rw [lnW_app]; rfl
            refine W236 (τ2.1 133 - 1) 0 nwi T (G ++ [r]) τ2 (Or.inl ⟨rfl, hk.2⟩) hn01 (fun _ => hn) (by omega) (by omega) (hz.frF hF2) hA2 (hF.tr hF2) (by omega) (by rw [hG2, if_neg (by omega)]; omega) (fun y => absurd y n59) (by omega) ⟨e2, by omega⟩ (by omega) (fun _ => z) (fun y => absurd y hlast)
      have W173 : ∀ cl : Int, (cl = 0 ∨ cl = 1) → ¬ (nwi = 0 ∧ (isG w 58 ∨ isG w 44 ∨ isG w 59)) → W_hAddresses_173 gr a nwi k 0 cl τ1 Q := fun cl hcl hne =>
        s_hAddresses_173 (s_hAddresses_174 ⟨by decide, fun _ => NEXT hne, fun c => absurd rfl c⟩)
      have W104 : W_hAddresses_104 gr a nwi k 0 τ1 Q := by
        have A129 : ¬ (nwi = 0 ∧ isG w 58) → W_hAddresses_129 gr a nwi k 0 τ1 Q := fun hno => by
          refine s_hAddresses_129 (s_hAddresses_130 ⟨by decide, fun c => absurd rfl c, fun _ => ⟨by omega, fun c139 => W173 0 (Or.inl rfl) (fun q => c139 q.1), fun c139 => ⟨by decide, fun c => absurd rfl c, fun _ => t_hIs hz hk (by omega) fun r152 => ⟨fun c155 => ?_, fun c155 => t_hIs hz hk (by omega) fun r163 => ⟨fun c166 => ?_, fun c166 => ?_⟩⟩⟩⟩⟩)
          · rw [hwk] at c155
            exact s_hAddresses_169 (W174 0 (Or.inl rfl) c139 (fun y => absurd y (by decide)) (fun _ => Or.inl (Classical.byContradiction fun y => c155 (if_neg y))))
          · rw [hwk] at c155 c166
            refine W173 0 (Or.inl rfl) (fun q => ?_)
            rcases q.2 with x | x | x
            · exact hno ⟨q.1, x⟩
            · rw [if_pos x] at c155; exact absurd c155 (by decide)
            · rw [if_pos x] at c166; exact absurd c166 (by decide)
          · rw [hwk] at c166
            exact s_hAddresses_169 (W174 0 (Or.inl rfl) c139 (fun y => absurd y (by decide)) (fun _ => Or.inr (Classical.byContradiction fun y => c166 (if_neg y))))
        refine s_hAddresses_104 ⟨by decide, fun c => absurd rfl c, fun _ => ⟨by omega, fun c111 => A129 (fun q => c111 q.1), fun c111 => t_hIs hz hk (by omega) fun r119 => ⟨fun c122 => A129 (fun q => ?_), fun c122 => ?_⟩⟩⟩
        · rw [hwk, if_pos q.2] at c122; exact absurd c122 (by decide)
        · have y : isG w 58 := Classical.byContradiction fun y => c122 (by rw [hwk]; exact if_neg y)
          exact s_hAddresses_130 ⟨by decide, fun c => absurd rfl c, fun _ => ⟨by omega, fun c139 => absurd c111 c139, fun c139 => ⟨by decide, fun _ => s_hAddresses_169 (W174 1 (Or.inr rfl) c111 (fun _ => y) (fun z => absurd z (by decide))), fun c => absurd c (by decide)⟩⟩⟩
      have W85 : ¬ (isG w 60 ∧ wi = 0) → W_hAddresses_85 gr a wi k 0 τ1 Q := fun hno => by
        refine s_hAddresses_85 ⟨by decide, fun c => absurd rfl c, fun _ => t_hIs hz hk (by omega) fun r95 => ⟨fun c98 => ?_, fun c98 => ?_⟩⟩
        · have n62 : ¬ isG w 62 := fun y => by rw [hwk, if_pos y] at c98; exact absurd c98 (by decide)
          rw [if_neg hno, if_neg n62] at hnwi
          rw [hnwi] at W104; exact W104
        · have y62 : isG w 62 := Classical.byContradiction fun y => c98 (by rw [hwk]; exact if_neg y)
          rw [if_neg hno, if_pos y62] at hnwi
          rw [hnwi] at W104; exact W104
      refine ⟨fun c48 => s_hAddresses_56 ⟨by decide, fun c => absurd rfl c, fun _ => t_hIs hz hk (by omega) fun r68 => ⟨fun c71 => W85 (fun q => ?_), fun c71 => ⟨by omega, fun c76 => W85 (fun q => c76 q.2), fun c76 => ?_⟩⟩⟩, fun c48 => absurd c48 hlast⟩
      · rw [hwk, if_pos q.1] at c71; exact absurd c71 (by decide)
      · have y : isG w 60 := Classical.byContradiction fun y => c71 (by rw [hwk]; exact if_neg y)
        rw [if_pos ⟨y, c76⟩] at hnwi
        rw [hnwi] at W104; exact W104
  refine s_hAddresses (t_hCutZ h fun τ1 hF1 hz => t_hForget ⟨by decide, by decide, by decide⟩ ⟨by decide, by decide⟩ fun τ2 hF2 e91 e90 => ?_)
  rw [hW] at hz
  have hz2 : HWZ ((τ2.s 133 0).s 134 0) W := (hz.frF hF2).fr rfl rfl rfl rfl rfl rfl rfl
  have hA : ADR ((τ2.s 133 0).s 134 0) [] [] := ⟨PRT.new (e91 0 (by decide) (by decide)) (by show 0 ≤ τ2.2 90 0; omega), PRT.new (e91 1 (by decide) (by decide)) (by show 0 ≤ τ2.2 90 0; omega), PRT.new (e91 2 (by decide) (by decide)) (by show 0 ≤ τ2.2 90 0; omega), PRT.new (e91 3 (by decide) (by decide)) (by show 0 ≤ τ2.2 90 0; omega)⟩
  refine L _ 0 0 (-1) 0 [] [] _ rfl (Int.le_refl 0) (Int.le_refl 0) (by omega) (fun z => absurd z (by omega)) (Or.inl rfl) (Int.le_refl _) (by decide) hz2 hA ((((Fr.rf.tr hF1).tr hF2).ps _ _).ps _ _) (Int.le_refl _) (by decide) ?_ ⟨Int.le_refl 0, Int.le_refl 0⟩ ⟨Int.le_refl 0, Int.le_refl 0⟩ (fun _ => ?_) (fun z => absurd z (by omega)) (fun _ => ⟨fun _ i i0 i1 => absurd i1 (by omega), fun z => absurd z (by decide)⟩)
  · show τ2.2 90 0 ≤ _
    have := (wsR_nn (W := W) (b := min 0 (lnW W)) _ 0 rfl).1
    omega
  · rw [fl_end (Int.le_refl _), show ctF W 0 0 = [] from if_pos (fl_end (Int.le_refl _))]
    exact hR
end ADA
