/-! the twin: rows of pieces; whether a row is an address -/
set_option maxRecDepth 100000
section WRW
variable {τ : TT} {l : List Int} {k a e b pl : Int} {ad : Bool}
theorem wpB_c {c : Int} : wpB c = true ↔ chWP c := by unfold wpB; exact decide_eq_true_iff
theorem jnB_c {l : List Int} {k : Int} : jnB l k = true ↔ (atI l k = 64 ∨ (atI l k = 46 ∧ chWL (atI l (k - 1)) ∧ chWL (atI l (k + 1)))) := by
  unfold jnB
  rw [Bool.or_eq_true, Bool.and_eq_true, Bool.and_eq_true, decide_eq_true_iff, decide_eq_true_iff, decide_eq_true_iff, decide_eq_true_iff]
theorem moB_c {l : List Int} {k : Int} : moB l k = true ↔ (chJo (atI l k) ∧ chWP (atI l (k + 1))) := by
  unfold moB
  rw [Bool.and_eq_true, decide_eq_true_iff, decide_eq_true_iff]
theorem jn_wp (h : chWP (atI l k)) : ¬ jnB l k = true := fun z => by
  rcases jnB_c.mp z with y | y
  · rw [y] at h; exact absurd h (by decide)
  · rw [y.1] at h; exact absurd h (by decide)
theorem jn_jo (h : jnB l k = true) : chJo (atI l k) := by
  rcases jnB_c.mp h with y | y
  · unfold chJo; omega
  · unfold chJo; omega
theorem rwG_n (h : ¬ (0 ≤ b ∧ scn wpB l b < len l ∧ moB l (scn wpB l b) = true)) : rwG l b pl ad = ([pcF (smT l b (scn wpB l b)) pl], scn wpB l b, ad) := by rw [rwG, dif_neg h]
theorem rwG_y (h : 0 ≤ b ∧ scn wpB l b < len l ∧ moB l (scn wpB l b) = true) : rwG l b pl ad = (pcF (smT l b (scn wpB l b)) pl :: (rwG l (scn wpB l b + 1) (pl + 1) (ad || jnB l (scn wpB l b))).1, (rwG l (scn wpB l b + 1) (pl + 1) (ad || jnB l (scn wpB l b))).2) := by rw [rwG, dif_pos h]
/-- a sign that goes on: a word stands behind it -/
theorem mo_go (h : moB l k = true) (hk : 0 ≤ k) : k + 1 < len l ∧ chWP (gt l (k + 1)) := by
  have hc := (moB_c.mp h).2
  have hlt : k + 1 < len l := Classical.byContradiction fun z => by
    have ha : atI l (k + 1) = -1 := if_neg (fun y => z y.2)
    rw [ha] at hc
    exact absurd hc (by decide)
  have ha : atI l (k + 1) = gt l (k + 1) := if_pos ⟨by omega, hlt⟩
  rw [ha] at hc
  exact ⟨hlt, hc⟩
/-- a row is an address where one of its signs says so; signs stand between words -/
theorem rwG_ad : ∀ (N : Nat) (b pl : Int) (ad : Bool), (len l - b).toNat = N → 0 ≤ b → b < len l → chWP (gt l b) → ((rwG l b pl ad).2.2 = true ↔ (ad = true ∨ ∃ k, b ≤ k ∧ k < (rwG l b pl ad).2.1 ∧ jnB l k = true)) ∧ ∀ k, b ≤ k → k < (rwG l b pl ad).2.1 → ¬ chWP (gt l k) → b < k ∧ k + 1 < (rwG l b pl ad).2.1 := by
  intro N
  induction N using Nat.strongRecOn with
  | ind N ih =>
    intro b pl ad hN b0 b1 hb
    have h1 := scn_step (p := wpB) ⟨b0, b1⟩ (wpB_c.mpr hb)
    have h2 := scn_ge (p := wpB) (l := l) (k := b + 1)
    have h3 := scn_le (p := wpB) (l := l) b b0 (by omega)
    have hA : ∀ k, b ≤ k → k < scn wpB l b → chWP (gt l k) ∧ ¬ jnB l k = true := fun k k0 k1 => by
      have y := wpB_c.mp (scn_all (p := wpB) (l := l) b b0 k k0 k1)
      refine ⟨y, jn_wp ?_⟩
      rw [show atI l k = gt l k from if_pos ⟨by omega, by omega⟩]
      exact y
    by_cases h : 0 ≤ b ∧ scn wpB l b < len l ∧ moB l (scn wpB l b) = true
    · have hg := mo_go h.2.2 (by omega)
      have IH := ih _ (by omega) (scn wpB l b + 1) (pl + 1) (ad || jnB l (scn wpB l b)) rfl (by omega) hg.1 hg.2
      have hin := rwG_in (l := l) _ (scn wpB l b + 1) (pl + 1) (ad || jnB l (scn wpB l b)) rfl (by omega) hg.1 (wpB_c.mpr hg.2)
      rw [rwG_y h]
      dsimp only
      generalize rwG l (scn wpB l b + 1) (pl + 1) (ad || jnB l (scn wpB l b)) = R at *
      generalize scn wpB l b = e at *
      refine ⟨⟨fun z => ?_, fun z => ?_⟩, fun k k0 k1 kw => ?_⟩
      · rcases IH.1.mp z with y | ⟨k, y1, y2, y3⟩
        · rcases (Bool.or_eq_true _ _).mp y with x | x
          · exact Or.inl x
          · exact Or.inr ⟨e, by omega, by omega, x⟩
        · exact Or.inr ⟨k, by omega, y2, y3⟩
      · refine IH.1.mpr ?_
        rcases z with y | ⟨k, y1, y2, y3⟩
        · left; rw [y]; rfl
        · rcases Int.lt_trichotomy k e with x | x | x
          · exact absurd y3 (hA k y1 x).2
          · left; rw [x] at y3; rw [y3]; exact Bool.or_true _
          · exact Or.inr ⟨k, by omega, y2, y3⟩
      · rcases Int.lt_trichotomy k e with x | x | x
        · exact absurd (hA k k0 x).1 kw
        · omega
        · have := IH.2 k (by omega) k1 kw
          omega
    · rw [rwG_n h]
      dsimp only
      refine ⟨⟨fun z => Or.inl z, fun z => ?_⟩, fun k k0 k1 kw => absurd (hA k k0 k1).1 kw⟩
      rcases z with y | ⟨k, y1, y2, y3⟩
      · exact y
      · exact absurd y3 (hA k y1 y2).2
theorem t_wIsAddress {Q : Int → TT → Prop} (h : WTX τ l) (ha : 0 ≤ a ∧ a < len l) (hw : chWP (gt l a)) (he : e = roE l a pl) (hQ1 : (rwG l a pl false).2.2 = true → Q 1 τ) (hQ0 : ¬ (rwG l a pl false).2.2 = true → Q 0 τ) : w_wIsAddress a e τ Q := by
  have hn := h.ln
  have hs := h.2.1
  have hin := rwG_in (l := l) _ a pl false rfl ha.1 ha.2 (wpB_c.mpr hw)
  have had := rwG_ad (l := l) _ a pl false rfl ha.1 ha.2 hw
  unfold roE at he
  rw [← he] at hin had
  have L : ∀ (N : Nat) (k : Int), (e - k).toNat = N → a ≤ k → k ≤ e → (∀ j, a ≤ j → j < k → ¬ jnB l j = true) → W_wIsAddress_2 e k τ Q := by
    intro N
    induction N using Nat.strongRecOn with
    | ind N ih =>
      intro k hN k0 k1 hj
      refine s_wIsAddress_2 ⟨by omega, by omega, fun c4 => hQ0 (fun z => ?_), fun c4 => ⟨by omega, fun r12 => ?_⟩⟩
      · rcases had.1.mp z with y | ⟨j, y1, y2, y3⟩
        · exact absurd y (by decide)
        · exact hj j y1 (by omega) y3
      have hkl : 0 ≤ k ∧ k < len l := ⟨by omega, by omega⟩
      have hat : atI l k = gt l k := if_pos hkl
      rw [h.rd hkl]
      have YES : jnB l k = true → Q 1 τ := fun z => hQ1 (had.1.mpr (Or.inr ⟨k, k0, by omega, z⟩))
      have NO : ¬ jnB l k = true → W_wIsAddress_2 e (k + 1) τ Q := fun z => ih _ (by omega) (k + 1) rfl (by omega) (by omega) (fun j j0 j1 => by
        rcases Int.lt_or_eq_of_le (show j ≤ k by omega) with x | x
        · exact hj j j0 x
        · rw [x]; exact z)
      refine ⟨fun c15 => YES (jnB_c.mpr (Or.inl (hat.trans c15))), fun c15 r23 => ⟨fun c26 => NO (fun z => ?_), fun c26 => ?_⟩⟩
      · rcases jnB_c.mp z with y | y
        · exact c15 (hat.symm.trans y)
        · exact c26 (hat.symm.trans y.1)
      have hkw : ¬ chWP (gt l k) := fun z => by rw [c26] at z; exact absurd z (by decide)
      have hb := had.2 k k0 (by omega) hkw
      have g1 := h.ch (k := k - 1) ⟨by omega, by omega⟩
      have g2 := h.ch (k := k + 1) ⟨by omega, by omega⟩
      have a1 : atI l (k - 1) = gt l (k - 1) := if_pos ⟨by omega, by omega⟩
      have a2 : atI l (k + 1) = gt l (k + 1) := if_pos ⟨by omega, by omega⟩
      refine ⟨by omega, fun r36 => ?_⟩
      rw [h.rd (k := k - 1) ⟨by omega, by omega⟩]
      refine t_wIsLetter (by omega) (fun hp r37 => ⟨fun c0 => absurd c0 (by decide), fun _ => ⟨by omega, fun r50 => ?_⟩⟩) (fun hp r37 => ⟨fun _ => NO (fun z => ?_), fun c0 => absurd rfl c0⟩)
      · rw [h.rd (k := k + 1) ⟨by omega, by omega⟩]
        refine t_wIsLetter (by omega) (fun hp2 r51 => ⟨fun c0 => absurd c0 (by decide), fun _ => YES (jnB_c.mpr (Or.inr ⟨hat.trans c26, by rw [a1]; exact hp, by rw [a2]; exact hp2⟩))⟩) (fun hp2 r51 => ⟨fun _ => NO (fun z => ?_), fun c0 => absurd rfl c0⟩)
        rcases jnB_c.mp z with y | y
        · exact c15 (hat.symm.trans y)
        · rw [a2] at y; exact hp2 y.2.2
      · rcases jnB_c.mp z with y | y
        · exact c15 (hat.symm.trans y)
        · rw [a1] at y; exact hp y.2.1
  exact s_wIsAddress (L _ a rfl (Int.le_refl a) (by omega) (fun j j0 j1 => absurd j1 (by omega)))
theorem t_wRowEnd {Q : Int → TT → Prop} (h : WTX τ l) (ha : 0 ≤ a ∧ a < e ∧ e ≤ len l) (he : rwX l e) (hw : chWP (gt l a)) (hQ : Q (roE l a pl) τ) : w_wRowEnd a e τ Q := by
  have hn := h.ln
  have hs := h.2.1
  have SC : ∀ b, 0 ≤ b → b ≤ e → min e (scn wpB l b) = scn wpB l b := fun b b0 b1 => by
    have := scn_to (p := wpB) b0 b1 ha.2.2 (rwX_wp he (by omega))
    omega
  have L : ∀ (N : Nat) (b p2 : Int) (ad : Bool), (e - b).toNat = N → a ≤ b → b < e → chWP (gt l b) → (rwG l b p2 ad).2.1 = roE l a pl → W_wRowEnd_7 e (scn wpB l b) τ Q := by
    intro N
    induction N using Nat.strongRecOn with
    | ind N ih =>
      intro b p2 ad hN b0 b1 hb hE
      have hst := scn_step (p := wpB) (l := l) ⟨by omega, by omega⟩ (wpB_c.mpr hb)
      have hge := scn_ge (p := wpB) (l := l) (k := b + 1)
      have hle := scn_to (p := wpB) (l := l) (b := b) (e := e) (by omega) (by omega) ha.2.2 (rwX_wp he (by omega))
      have END : ¬ moB l (scn wpB l b) = true → Q (scn wpB l b) τ := fun z => by
        rw [rwG_n (fun y => z y.2.2)] at hE
        dsimp only at hE
        rw [hE]; exact hQ
      refine s_wRowEnd_7 ⟨by omega, by omega, fun c11 => ⟨by omega, END (fun z => ?_)⟩, fun c11 => ⟨by omega, fun r19 => ?_⟩⟩
      · have hm := moB_c.mp z
        rcases Int.lt_or_eq_of_le hle with x | x
        · have y : scn wpB l b + 1 = e := by omega
          rw [y] at hm
          exact he.1 hm.2
        · rw [x] at hm; exact he.2 hm.1
      have hkl : 0 ≤ scn wpB l b ∧ scn wpB l b < len l := ⟨by omega, by omega⟩
      have g1 := h.ch hkl
      have a1 : atI l (scn wpB l b) = gt l (scn wpB l b) := if_pos hkl
      have g2 := h.ch (k := scn wpB l b + 1) ⟨by omega, by omega⟩
      have a2 : atI l (scn wpB l b + 1) = gt l (scn wpB l b + 1) := if_pos ⟨by omega, by omega⟩
      rw [h.rd hkl]
      refine t_wIsSign (by omega) (fun hp r20 => ⟨fun c0 => absurd c0 (by decide), fun _ => ⟨by omega, fun r33 => ?_⟩⟩) (fun hp r20 => ⟨fun _ => ⟨by omega, END (fun z => hp (by rw [← a1]; exact (moB_c.mp z).1))⟩, fun c0 => absurd rfl c0⟩)
      rw [h.rd (k := scn wpB l b + 1) ⟨by omega, by omega⟩]
      refine t_wIsWord (by omega) (fun hp2 r34 => ⟨fun c0 => absurd c0 (by decide), fun _ => ?_⟩) (fun hp2 r34 => ⟨fun _ => ⟨by omega, END (fun z => hp2 (by rw [← a2]; exact (moB_c.mp z).2))⟩, fun c0 => absurd rfl c0⟩)
      have hmo : moB l (scn wpB l b) = true := moB_c.mpr ⟨by rw [a1]; exact hp, by rw [a2]; exact hp2⟩
      refine t_wPieceEnd h ⟨by omega, by omega, ha.2.2⟩ (fun r45 => ?_)
      rw [SC _ (by omega) (by omega)]
      rw [rwG_y ⟨by omega, hkl.2, hmo⟩] at hE
      exact ih _ (by omega) (scn wpB l b + 1) (p2 + 1) (ad || jnB l (scn wpB l b)) rfl (by omega) (by omega) hp2 hE
  refine s_wRowEnd (t_wPieceEnd h ⟨ha.1, by omega, ha.2.2⟩ (fun r3 => ?_))
  rw [SC a ha.1 (by omega)]
  exact L _ a pl false rfl (Int.le_refl a) ha.2.1 hw rfl
end WRW
